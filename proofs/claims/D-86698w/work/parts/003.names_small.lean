/-! java/lang/Throwable -/
set_option maxRecDepth 100000
def RJ0 : String := "java/lang/Throwable"
def TJ0 : u_T := fun k => match k with
  | 0 => ("java/lang/Throwable", "cause", "Ljava/lang/Throwable;", false)
  | 1 => ("java/lang/Throwable", "stackTrace", "[Ljava/lang/StackTraceElement;", false)
  | 2 => ("java/lang/Throwable", "suppressedExceptions", "Ljava/util/List;", false)
  | 3 => ("java/lang/Throwable", "detailMessage", "Ljava/lang/String;", false)
  | _ => ("java/lang/Throwable", "backtrace", "Ljava/lang/Object;", false)
def tyJ0 : Nat → FieldType := fun k => match k with
  | 0 => .object "java/lang/Throwable"
  | 1 => .array (.object "java/lang/StackTraceElement")
  | 2 => .object "java/util/List"
  | 3 => .object "java/lang/String"
  | _ => .object "java/lang/Object"
abbrev wsJ00 : List Cond := u_ws RJ0 TJ0 5
theorem nmJ0 : ∀ a, a < 5 → ∀ b, b < 5 → a ≠ b → (TJ0 a).2.1 ≠ (TJ0 b).2.1 := by decide +kernel
theorem tyJ0_ok : ∀ k, k < 5 → parseFieldDescriptor (TJ0 k).2.2.1 = some (tyJ0 k) := by decide +kernel
abbrev cJ0_init : ByteArray := prog_39_method_1_code
def yJ0_init : MethodName := ⟨RJ0, "<init>", "()V"⟩
def dkwJ0_init_1 : List UInt8 := [182, 0, 27, 87, 177]
abbrev dktJ0_init_1 : List UInt8 := dkwJ0_init_1 ++ []
def dkwJ0_init_0 : List UInt8 := [42, 183, 0, 1, 42, 42, 181, 0, 7, 42, 178, 0, 13, 181, 0, 17, 42, 178, 0, 20, 181, 0, 24, 42]
abbrev dktJ0_init_0 : List UInt8 := dkwJ0_init_0 ++ dktJ0_init_1
theorem dksJ0_init_0 : cJ0_init.data.toList.drop 0 = dktJ0_init_0 := by decide +kernel
theorem dksJ0_init_1 : cJ0_init.data.toList.drop 24 = dktJ0_init_1 := dk_seg dksJ0_init_0 24 rfl rfl
theorem dJ0_init_0 : decode cJ0_init 0 = .ok (.aload_n 0, 1) := dk_42 (dk_at dksJ0_init_0 0 rfl rfl)
theorem dJ0_init_1 : decode cJ0_init 1 = .ok (.invokespecial 1, 3) := dk_183 0 1 (dk_at dksJ0_init_0 1 rfl rfl)
theorem dJ0_init_4 : decode cJ0_init 4 = .ok (.aload_n 0, 1) := dk_42 (dk_at dksJ0_init_0 4 rfl rfl)
theorem dJ0_init_5 : decode cJ0_init 5 = .ok (.aload_n 0, 1) := dk_42 (dk_at dksJ0_init_0 5 rfl rfl)
theorem dJ0_init_6 : decode cJ0_init 6 = .ok (.putfield 7, 3) := dk_181 0 7 (dk_at dksJ0_init_0 6 rfl rfl)
theorem dJ0_init_9 : decode cJ0_init 9 = .ok (.aload_n 0, 1) := dk_42 (dk_at dksJ0_init_0 9 rfl rfl)
theorem dJ0_init_10 : decode cJ0_init 10 = .ok (.getstatic 13, 3) := dk_178 0 13 (dk_at dksJ0_init_0 10 rfl rfl)
theorem dJ0_init_13 : decode cJ0_init 13 = .ok (.putfield 17, 3) := dk_181 0 17 (dk_at dksJ0_init_0 13 rfl rfl)
theorem dJ0_init_16 : decode cJ0_init 16 = .ok (.aload_n 0, 1) := dk_42 (dk_at dksJ0_init_0 16 rfl rfl)
theorem dJ0_init_17 : decode cJ0_init 17 = .ok (.getstatic 20, 3) := dk_178 0 20 (dk_at dksJ0_init_0 17 rfl rfl)
theorem dJ0_init_20 : decode cJ0_init 20 = .ok (.putfield 24, 3) := dk_181 0 24 (dk_at dksJ0_init_0 20 rfl rfl)
theorem dJ0_init_23 : decode cJ0_init 23 = .ok (.aload_n 0, 1) := dk_42 (dk_at dksJ0_init_0 23 rfl rfl)
theorem dJ0_init_24 : decode cJ0_init 24 = .ok (.invokevirtual 27, 3) := dk_182 0 27 (dk_at dksJ0_init_1 0 rfl rfl)
theorem dJ0_init_27 : decode cJ0_init 27 = .ok (.pop, 1) := dk_87 (dk_at dksJ0_init_1 3 rfl rfl)
theorem dJ0_init_28 : decode cJ0_init 28 = .ok (.return_, 1) := dk_177 (dk_at dksJ0_init_1 4 rfl rfl)
theorem q77 : (Jvm.Cond.initialized "java/lang/Throwable") ∈ lw_all := lw_g (lw_at lw_m1 2 rfl) rfl
theorem q130 : (Jvm.Cond.declares ({ cls := "java/lang/Throwable", name := "<init>", desc := "()V" } : Jvm.MethodName)) ∈ lw_tbl := lw_at lw_m1 55 rfl
theorem q131 : (Jvm.Cond.declares ({ cls := "java/lang/Throwable", name := "<init>", desc := "(Ljava/lang/String;)V" } : Jvm.MethodName)) ∈ lw_tbl := lw_at lw_m1 56 rfl
theorem q135 : (Jvm.Cond.lays "java/lang/Throwable" "java/lang/Throwable" "cause" "Ljava/lang/Throwable;") ∈ lw_all := lw_g (lw_at lw_m1 60 rfl) rfl
theorem q137 : (Jvm.Cond.lays "java/lang/Throwable" "java/lang/Throwable" "stackTrace" "[Ljava/lang/StackTraceElement;") ∈ lw_all := lw_g (lw_at lw_m1 62 rfl) rfl
theorem q139 : (Jvm.Cond.lays "java/lang/Throwable" "java/lang/Throwable" "suppressedExceptions" "Ljava/util/List;") ∈ lw_all := lw_g (lw_at lw_m1 64 rfl) rfl
theorem q141 : (Jvm.Cond.lays "java/lang/Throwable" "java/lang/Throwable" "detailMessage" "Ljava/lang/String;") ∈ lw_all := lw_g (lw_at lw_m1 66 rfl) rfl
theorem q143 : (Jvm.Cond.lays "java/lang/Throwable" "java/lang/Throwable" "backtrace" "Ljava/lang/Object;") ∈ lw_all := lw_g (lw_at lw_m1 68 rfl) rfl
theorem q144 : (Jvm.Cond.fieldLink "java/lang/Throwable" (198 : Nat) "java/lang/Throwable" "backtrace" "Ljava/lang/Object;") ∈ lw_all := lw_g (lw_at lw_m1 69 rfl) rfl
theorem q145 : (Jvm.Cond.superclass "java/lang/Throwable" "java/lang/Object") ∈ lw_all := lw_g (lw_at lw_m1 70 rfl) rfl
theorem q146 : (Jvm.Cond.instanceMethod ({ cls := "java/lang/Throwable", name := "<init>", desc := "()V" } : Jvm.MethodName)) ∈ lw_all := lw_g (lw_at lw_m1 71 rfl) rfl
theorem q147 : (Jvm.Cond.code ({ cls := "java/lang/Throwable", name := "<init>", desc := "()V" } : Jvm.MethodName) prog_39_method_1_code (1 : Nat) (Option.none : Option Jvm.ClassFile.FieldType)) ∈ lw_all := lw_g (lw_at lw_m1 72 rfl) rfl
theorem q148 : (Jvm.Cond.methodLink "java/lang/Throwable" (1 : Nat) ({ cls := "java/lang/Object", name := "<init>", desc := "()V" } : Jvm.MethodName)) ∈ lw_all := lw_g (lw_at lw_m1 73 rfl) rfl
theorem q149 : (Jvm.Cond.fieldLink "java/lang/Throwable" (13 : Nat) "java/lang/Throwable" "UNASSIGNED_STACK" "[Ljava/lang/StackTraceElement;") ∈ lw_all := lw_g (lw_at lw_m1 74 rfl) rfl
theorem q150 : (Jvm.Cond.laysStatic "java/lang/Throwable" "UNASSIGNED_STACK" "[Ljava/lang/StackTraceElement;") ∈ lw_tbl := lw_at lw_m1 75 rfl
theorem q151 : (Jvm.Cond.fieldLink "java/lang/Throwable" (20 : Nat) "java/lang/Throwable" "SUPPRESSED_SENTINEL" "Ljava/util/List;") ∈ lw_all := lw_g (lw_at lw_m1 76 rfl) rfl
theorem q152 : (Jvm.Cond.laysStatic "java/lang/Throwable" "SUPPRESSED_SENTINEL" "Ljava/util/List;") ∈ lw_tbl := lw_at lw_m1 77 rfl
theorem q153 : (Jvm.Cond.methodLink "java/lang/Throwable" (27 : Nat) ({ cls := "java/lang/Throwable", name := "fillInStackTrace", desc := "()Ljava/lang/Throwable;" } : Jvm.MethodName)) ∈ lw_all := lw_g (lw_at lw_m1 78 rfl) rfl
theorem q154 : (Jvm.Cond.instanceMethod ({ cls := "java/lang/Throwable", name := "fillInStackTrace", desc := "()Ljava/lang/Throwable;" } : Jvm.MethodName)) ∈ lw_all := lw_g (lw_at lw_m1 79 rfl) rfl
theorem q155 : (Jvm.Cond.sameMethod "java/lang/Throwable" "java/lang/Throwable" "fillInStackTrace" "()Ljava/lang/Throwable;") ∈ lw_all := lw_g (lw_at lw_m1 80 rfl) rfl
theorem q157 : (Jvm.Cond.codeSync ({ cls := "java/lang/Throwable", name := "fillInStackTrace", desc := "()Ljava/lang/Throwable;" } : Jvm.MethodName) prog_39_method_18_code (1 : Nat) (Option.some (Jvm.ClassFile.FieldType.object "java/lang/Throwable"))) ∈ lw_all := lw_g (lw_at lw_m1 82 rfl) rfl
theorem q158 : (Jvm.Cond.methodLink "java/lang/Throwable" (202 : Nat) ({ cls := "java/lang/Throwable", name := "fillInStackTrace", desc := "(I)Ljava/lang/Throwable;" } : Jvm.MethodName)) ∈ lw_all := lw_g (lw_at lw_m1 83 rfl) rfl
theorem q159 : (Jvm.Cond.privateMethod ({ cls := "java/lang/Throwable", name := "fillInStackTrace", desc := "(I)Ljava/lang/Throwable;" } : Jvm.MethodName)) ∈ lw_tbl := lw_at lw_m1 84 rfl
theorem q160 : (Jvm.Cond.instanceMethod ({ cls := "java/lang/Throwable", name := "fillInStackTrace", desc := "(I)Ljava/lang/Throwable;" } : Jvm.MethodName)) ∈ lw_all := lw_g (lw_at lw_m1 85 rfl) rfl
theorem q161 : (Jvm.Cond.instantiable "java/lang/Throwable" (6 : Nat)) ∈ lw_all := lw_g (lw_at lw_m1 86 rfl) rfl
theorem q162 : (Jvm.Cond.native ({ cls := "java/lang/Throwable", name := "fillInStackTrace", desc := "(I)Ljava/lang/Throwable;" } : Jvm.MethodName)) ∈ lw_all := lw_g (lw_at lw_m1 87 rfl) rfl
theorem q174 : (Jvm.Cond.fieldLink "java/lang/Throwable" (198 : Nat) "java/lang/Throwable" "backtrace" "Ljava/lang/Object;") ∈ lw_all := lw_g (lw_at lw_m1 99 rfl) rfl
theorem q175 : (Jvm.Cond.fieldLink "java/lang/Throwable" (7 : Nat) "java/lang/Throwable" "cause" "Ljava/lang/Throwable;") ∈ lw_all := lw_g (lw_at lw_m1 100 rfl) rfl
theorem q176 : (Jvm.Cond.fieldLink "java/lang/Throwable" (17 : Nat) "java/lang/Throwable" "stackTrace" "[Ljava/lang/StackTraceElement;") ∈ lw_all := lw_g (lw_at lw_m1 101 rfl) rfl
theorem q177 : (Jvm.Cond.fieldLink "java/lang/Throwable" (24 : Nat) "java/lang/Throwable" "suppressedExceptions" "Ljava/util/List;") ∈ lw_all := lw_g (lw_at lw_m1 102 rfl) rfl
theorem q186 : (Jvm.Cond.soleField "java/lang/Throwable" "backtrace") ∈ lw_all := lw_g (lw_at lw_m1 111 rfl) rfl
theorem q187 : (Jvm.Cond.soleField "java/lang/Throwable" "detailMessage") ∈ lw_all := lw_g (lw_at lw_m1 112 rfl) rfl
theorem q188 : (Jvm.Cond.soleField "java/lang/Throwable" "cause") ∈ lw_all := lw_g (lw_at lw_m1 113 rfl) rfl
theorem q189 : (Jvm.Cond.soleField "java/lang/Throwable" "stackTrace") ∈ lw_all := lw_g (lw_at lw_m1 114 rfl) rfl
theorem q191 : (Jvm.Cond.soleField "java/lang/Throwable" "depth") ∈ lw_all := lw_g (lw_at lw_m1 116 rfl) rfl
theorem q192 : (Jvm.Cond.soleField "java/lang/Throwable" "suppressedExceptions") ∈ lw_all := lw_g (lw_at lw_m1 117 rfl) rfl
theorem q2043 : (Jvm.Cond.sameMethod "java/lang/Throwable" "java/lang/Throwable" "fillInStackTrace" "(I)Ljava/lang/Throwable;") ∈ lw_all := lw_g (lw_at lw_m9 48 rfl) rfl
theorem q2099 : (Jvm.Cond.castable "java/lang/Throwable" "java/lang/Object") ∈ lw_tbl := lw_at lw_m9 104 rfl
theorem in_J0 : ∀ w ∈ wsJ00, w ∈ lw_all := lw_in wsJ00 [135, 137, 139, 141, 143] (by decide +kernel) (by decide +kernel)
/-! java/lang/Exception -/
set_option maxRecDepth 100000
def RJ1 : String := "java/lang/Exception"
abbrev cJ1_init : ByteArray := prog_35_method_1_code
def yJ1_init : MethodName := ⟨RJ1, "<init>", "()V"⟩
theorem dJ1_init_0 : decode cJ1_init 0 = .ok (.aload_n 0, 1) := by decide +kernel
theorem dJ1_init_1 : decode cJ1_init 1 = .ok (.invokespecial 1, 3) := by decide +kernel
theorem dJ1_init_4 : decode cJ1_init 4 = .ok (.return_, 1) := by decide +kernel
theorem q78 : (Jvm.Cond.initialized "java/lang/Exception") ∈ lw_all := lw_g (lw_at lw_m1 3 rfl) rfl
theorem q128 : (Jvm.Cond.declares ({ cls := "java/lang/Exception", name := "<init>", desc := "()V" } : Jvm.MethodName)) ∈ lw_tbl := lw_at lw_m1 53 rfl
theorem q129 : (Jvm.Cond.declares ({ cls := "java/lang/Exception", name := "<init>", desc := "(Ljava/lang/String;)V" } : Jvm.MethodName)) ∈ lw_tbl := lw_at lw_m1 54 rfl
theorem q167 : (Jvm.Cond.instanceMethod ({ cls := "java/lang/Exception", name := "<init>", desc := "()V" } : Jvm.MethodName)) ∈ lw_all := lw_g (lw_at lw_m1 92 rfl) rfl
theorem q168 : (Jvm.Cond.code ({ cls := "java/lang/Exception", name := "<init>", desc := "()V" } : Jvm.MethodName) prog_35_method_1_code (1 : Nat) (Option.none : Option Jvm.ClassFile.FieldType)) ∈ lw_all := lw_g (lw_at lw_m1 93 rfl) rfl
theorem q169 : (Jvm.Cond.methodLink "java/lang/Exception" (1 : Nat) ({ cls := "java/lang/Throwable", name := "<init>", desc := "()V" } : Jvm.MethodName)) ∈ lw_all := lw_g (lw_at lw_m1 94 rfl) rfl
/-! java/util/AbstractCollection -/
set_option maxRecDepth 100000
def RJ2 : String := "java/util/AbstractCollection"
abbrev cJ2_init : ByteArray := prog_40_method_1_code
def yJ2_init : MethodName := ⟨RJ2, "<init>", "()V"⟩
theorem dJ2_init_0 : decode cJ2_init 0 = .ok (.aload_n 0, 1) := by decide +kernel
theorem dJ2_init_1 : decode cJ2_init 1 = .ok (.invokespecial 1, 3) := by decide +kernel
theorem dJ2_init_4 : decode cJ2_init 4 = .ok (.return_, 1) := by decide +kernel
theorem q81 : (Jvm.Cond.initialized "java/util/AbstractCollection") ∈ lw_all := lw_g (lw_at lw_m1 6 rfl) rfl
theorem q221 : (Jvm.Cond.instanceMethod ({ cls := "java/util/AbstractCollection", name := "<init>", desc := "()V" } : Jvm.MethodName)) ∈ lw_all := lw_g (lw_at lw_m1 146 rfl) rfl
theorem q222 : (Jvm.Cond.code ({ cls := "java/util/AbstractCollection", name := "<init>", desc := "()V" } : Jvm.MethodName) prog_40_method_1_code (1 : Nat) (Option.none : Option Jvm.ClassFile.FieldType)) ∈ lw_all := lw_g (lw_at lw_m1 147 rfl) rfl
theorem q223 : (Jvm.Cond.methodLink "java/util/AbstractCollection" (1 : Nat) ({ cls := "java/lang/Object", name := "<init>", desc := "()V" } : Jvm.MethodName)) ∈ lw_all := lw_g (lw_at lw_m1 148 rfl) rfl
/-! java/util/AbstractList -/
set_option maxRecDepth 100000
def RJ3 : String := "java/util/AbstractList"
abbrev cJ3_init : ByteArray := prog_41_method_1_code
def yJ3_init : MethodName := ⟨RJ3, "<init>", "()V"⟩
def dkwJ3_init_0 : List UInt8 := [42, 183, 0, 1, 42, 3, 181, 0, 7, 177]
abbrev dktJ3_init_0 : List UInt8 := dkwJ3_init_0 ++ []
theorem dksJ3_init_0 : cJ3_init.data.toList.drop 0 = dktJ3_init_0 := by decide +kernel
theorem dJ3_init_0 : decode cJ3_init 0 = .ok (.aload_n 0, 1) := dk_42 (dk_at dksJ3_init_0 0 rfl rfl)
theorem dJ3_init_1 : decode cJ3_init 1 = .ok (.invokespecial 1, 3) := dk_183 0 1 (dk_at dksJ3_init_0 1 rfl rfl)
theorem dJ3_init_4 : decode cJ3_init 4 = .ok (.aload_n 0, 1) := dk_42 (dk_at dksJ3_init_0 4 rfl rfl)
theorem dJ3_init_5 : decode cJ3_init 5 = .ok (.iconst 0, 1) := dk_3 (dk_at dksJ3_init_0 5 rfl rfl)
theorem dJ3_init_6 : decode cJ3_init 6 = .ok (.putfield 7, 3) := dk_181 0 7 (dk_at dksJ3_init_0 6 rfl rfl)
theorem dJ3_init_9 : decode cJ3_init 9 = .ok (.return_, 1) := dk_177 (dk_at dksJ3_init_0 9 rfl rfl)
theorem q82 : (Jvm.Cond.initialized "java/util/AbstractList") ∈ lw_all := lw_g (lw_at lw_m1 7 rfl) rfl
theorem q218 : (Jvm.Cond.instanceMethod ({ cls := "java/util/AbstractList", name := "<init>", desc := "()V" } : Jvm.MethodName)) ∈ lw_all := lw_g (lw_at lw_m1 143 rfl) rfl
theorem q219 : (Jvm.Cond.code ({ cls := "java/util/AbstractList", name := "<init>", desc := "()V" } : Jvm.MethodName) prog_41_method_1_code (1 : Nat) (Option.none : Option Jvm.ClassFile.FieldType)) ∈ lw_all := lw_g (lw_at lw_m1 144 rfl) rfl
theorem q220 : (Jvm.Cond.methodLink "java/util/AbstractList" (1 : Nat) ({ cls := "java/util/AbstractCollection", name := "<init>", desc := "()V" } : Jvm.MethodName)) ∈ lw_all := lw_g (lw_at lw_m1 145 rfl) rfl
theorem q228 : (Jvm.Cond.fieldLink "java/util/AbstractList" (7 : Nat) "java/util/AbstractList" "modCount" "I") ∈ lw_all := lw_g (lw_at lw_m1 153 rfl) rfl
theorem q236 : (Jvm.Cond.soleField "java/util/AbstractList" "modCount") ∈ lw_all := lw_g (lw_at lw_m1 161 rfl) rfl
/-! java/util/ArrayList -/
set_option maxRecDepth 100000
def RJ4 : String := "java/util/ArrayList"
def TJ4 : u_T := fun k => match k with
  | 0 => ("java/util/AbstractList", "modCount", "I", false)
  | 1 => ("java/util/ArrayList", "elementData", "[Ljava/lang/Object;", false)
  | _ => ("java/util/ArrayList", "size", "I", false)
def tyJ4 : Nat → FieldType := fun k => match k with
  | 0 => .int
  | 1 => .array (.object "java/lang/Object")
  | _ => .int
abbrev wsJ40 : List Cond := u_ws RJ4 TJ4 3
theorem nmJ4 : ∀ a, a < 3 → ∀ b, b < 3 → a ≠ b → (TJ4 a).2.1 ≠ (TJ4 b).2.1 := by decide +kernel
theorem tyJ4_ok : ∀ k, k < 3 → parseFieldDescriptor (TJ4 k).2.2.1 = some (tyJ4 k) := by decide +kernel
abbrev cJ4_init : ByteArray := prog_42_method_2_code
def yJ4_init : MethodName := ⟨RJ4, "<init>", "()V"⟩
def dkwJ4_init_0 : List UInt8 := [42, 183, 0, 1, 42, 178, 0, 39, 181, 0, 9, 177]
abbrev dktJ4_init_0 : List UInt8 := dkwJ4_init_0 ++ []
theorem dksJ4_init_0 : cJ4_init.data.toList.drop 0 = dktJ4_init_0 := by decide +kernel
theorem dJ4_init_0 : decode cJ4_init 0 = .ok (.aload_n 0, 1) := dk_42 (dk_at dksJ4_init_0 0 rfl rfl)
theorem dJ4_init_1 : decode cJ4_init 1 = .ok (.invokespecial 1, 3) := dk_183 0 1 (dk_at dksJ4_init_0 1 rfl rfl)
theorem dJ4_init_4 : decode cJ4_init 4 = .ok (.aload_n 0, 1) := dk_42 (dk_at dksJ4_init_0 4 rfl rfl)
theorem dJ4_init_5 : decode cJ4_init 5 = .ok (.getstatic 39, 3) := dk_178 0 39 (dk_at dksJ4_init_0 5 rfl rfl)
theorem dJ4_init_8 : decode cJ4_init 8 = .ok (.putfield 9, 3) := dk_181 0 9 (dk_at dksJ4_init_0 8 rfl rfl)
theorem dJ4_init_11 : decode cJ4_init 11 = .ok (.return_, 1) := dk_177 (dk_at dksJ4_init_0 11 rfl rfl)
abbrev cJ4_size : ByteArray := prog_42_method_8_code
def yJ4_size : MethodName := ⟨RJ4, "size", "()I"⟩
theorem dJ4_size_0 : decode cJ4_size 0 = .ok (.aload_n 0, 1) := by decide +kernel
theorem dJ4_size_1 : decode cJ4_size 1 = .ok (.getfield 48, 3) := by decide +kernel
theorem dJ4_size_4 : decode cJ4_size 4 = .ok (.ireturn, 1) := by decide +kernel
abbrev cJ4_add : ByteArray := prog_42_method_25_code
def yJ4_add : MethodName := ⟨RJ4, "add", "(Ljava/lang/Object;)Z"⟩
def dkwJ4_add_1 : List UInt8 := [172]
abbrev dktJ4_add_1 : List UInt8 := dkwJ4_add_1 ++ []
def dkwJ4_add_0 : List UInt8 := [42, 89, 180, 0, 63, 4, 96, 181, 0, 63, 42, 43, 42, 180, 0, 9, 42, 180, 0, 48, 182, 0, 131, 4]
abbrev dktJ4_add_0 : List UInt8 := dkwJ4_add_0 ++ dktJ4_add_1
theorem dksJ4_add_0 : cJ4_add.data.toList.drop 0 = dktJ4_add_0 := by decide +kernel
theorem dksJ4_add_1 : cJ4_add.data.toList.drop 24 = dktJ4_add_1 := dk_seg dksJ4_add_0 24 rfl rfl
theorem dJ4_add_0 : decode cJ4_add 0 = .ok (.aload_n 0, 1) := dk_42 (dk_at dksJ4_add_0 0 rfl rfl)
theorem dJ4_add_1 : decode cJ4_add 1 = .ok (.dup, 1) := dk_89 (dk_at dksJ4_add_0 1 rfl rfl)
theorem dJ4_add_2 : decode cJ4_add 2 = .ok (.getfield 63, 3) := dk_180 0 63 (dk_at dksJ4_add_0 2 rfl rfl)
theorem dJ4_add_5 : decode cJ4_add 5 = .ok (.iconst 1, 1) := dk_4 (dk_at dksJ4_add_0 5 rfl rfl)
theorem dJ4_add_6 : decode cJ4_add 6 = .ok (.iadd, 1) := dk_96 (dk_at dksJ4_add_0 6 rfl rfl)
theorem dJ4_add_7 : decode cJ4_add 7 = .ok (.putfield 63, 3) := dk_181 0 63 (dk_at dksJ4_add_0 7 rfl rfl)
theorem dJ4_add_10 : decode cJ4_add 10 = .ok (.aload_n 0, 1) := dk_42 (dk_at dksJ4_add_0 10 rfl rfl)
theorem dJ4_add_11 : decode cJ4_add 11 = .ok (.aload_n 1, 1) := dk_43 (dk_at dksJ4_add_0 11 rfl rfl)
theorem dJ4_add_12 : decode cJ4_add 12 = .ok (.aload_n 0, 1) := dk_42 (dk_at dksJ4_add_0 12 rfl rfl)
theorem dJ4_add_13 : decode cJ4_add 13 = .ok (.getfield 9, 3) := dk_180 0 9 (dk_at dksJ4_add_0 13 rfl rfl)
theorem dJ4_add_16 : decode cJ4_add 16 = .ok (.aload_n 0, 1) := dk_42 (dk_at dksJ4_add_0 16 rfl rfl)
theorem dJ4_add_17 : decode cJ4_add 17 = .ok (.getfield 48, 3) := dk_180 0 48 (dk_at dksJ4_add_0 17 rfl rfl)
theorem dJ4_add_20 : decode cJ4_add 20 = .ok (.invokevirtual 131, 3) := dk_182 0 131 (dk_at dksJ4_add_0 20 rfl rfl)
theorem dJ4_add_23 : decode cJ4_add 23 = .ok (.iconst 1, 1) := dk_4 (dk_at dksJ4_add_0 23 rfl rfl)
theorem dJ4_add_24 : decode cJ4_add 24 = .ok (.ireturn, 1) := dk_172 (dk_at dksJ4_add_1 0 rfl rfl)
abbrev cJ4_add_2 : ByteArray := prog_42_method_24_code
def yJ4_add_2 : MethodName := ⟨RJ4, "add", "(Ljava/lang/Object;[Ljava/lang/Object;I)V"⟩
def dkwJ4_add_2_0 : List UInt8 := [29, 44, 190, 160, 0, 8, 42, 182, 0, 129, 77, 44, 29, 43, 83, 42, 29, 4, 96, 181, 0, 48, 177]
abbrev dktJ4_add_2_0 : List UInt8 := dkwJ4_add_2_0 ++ []
theorem dksJ4_add_2_0 : cJ4_add_2.data.toList.drop 0 = dktJ4_add_2_0 := by decide +kernel
theorem dJ4_add_2_0 : decode cJ4_add_2 0 = .ok (.iload_n 3, 1) := dk_29 (dk_at dksJ4_add_2_0 0 rfl rfl)
theorem dJ4_add_2_1 : decode cJ4_add_2 1 = .ok (.aload_n 2, 1) := dk_44 (dk_at dksJ4_add_2_0 1 rfl rfl)
theorem dJ4_add_2_2 : decode cJ4_add_2 2 = .ok (.arraylength, 1) := dk_190 (dk_at dksJ4_add_2_0 2 rfl rfl)
theorem dJ4_add_2_3 : decode cJ4_add_2 3 = .ok (.if_icmp .ne 8, 3) := dk_160 0 8 (dk_at dksJ4_add_2_0 3 rfl rfl)
theorem dJ4_add_2_6 : decode cJ4_add_2 6 = .ok (.aload_n 0, 1) := dk_42 (dk_at dksJ4_add_2_0 6 rfl rfl)
theorem dJ4_add_2_7 : decode cJ4_add_2 7 = .ok (.invokevirtual 129, 3) := dk_182 0 129 (dk_at dksJ4_add_2_0 7 rfl rfl)
theorem dJ4_add_2_10 : decode cJ4_add_2 10 = .ok (.astore_n 2, 1) := dk_77 (dk_at dksJ4_add_2_0 10 rfl rfl)
theorem dJ4_add_2_11 : decode cJ4_add_2 11 = .ok (.aload_n 2, 1) := dk_44 (dk_at dksJ4_add_2_0 11 rfl rfl)
theorem dJ4_add_2_12 : decode cJ4_add_2 12 = .ok (.iload_n 3, 1) := dk_29 (dk_at dksJ4_add_2_0 12 rfl rfl)
theorem dJ4_add_2_13 : decode cJ4_add_2 13 = .ok (.aload_n 1, 1) := dk_43 (dk_at dksJ4_add_2_0 13 rfl rfl)
theorem dJ4_add_2_14 : decode cJ4_add_2 14 = .ok (.aastore, 1) := dk_83 (dk_at dksJ4_add_2_0 14 rfl rfl)
theorem dJ4_add_2_15 : decode cJ4_add_2 15 = .ok (.aload_n 0, 1) := dk_42 (dk_at dksJ4_add_2_0 15 rfl rfl)
theorem dJ4_add_2_16 : decode cJ4_add_2 16 = .ok (.iload_n 3, 1) := dk_29 (dk_at dksJ4_add_2_0 16 rfl rfl)
theorem dJ4_add_2_17 : decode cJ4_add_2 17 = .ok (.iconst 1, 1) := dk_4 (dk_at dksJ4_add_2_0 17 rfl rfl)
theorem dJ4_add_2_18 : decode cJ4_add_2 18 = .ok (.iadd, 1) := dk_96 (dk_at dksJ4_add_2_0 18 rfl rfl)
theorem dJ4_add_2_19 : decode cJ4_add_2 19 = .ok (.putfield 48, 3) := dk_181 0 48 (dk_at dksJ4_add_2_0 19 rfl rfl)
theorem dJ4_add_2_22 : decode cJ4_add_2 22 = .ok (.return_, 1) := dk_177 (dk_at dksJ4_add_2_0 22 rfl rfl)
abbrev cJ4_grow : ByteArray := prog_42_method_7_code
def yJ4_grow : MethodName := ⟨RJ4, "grow", "()[Ljava/lang/Object;"⟩
def dkwJ4_grow_0 : List UInt8 := [42, 42, 180, 0, 48, 4, 96, 182, 0, 69, 176]
abbrev dktJ4_grow_0 : List UInt8 := dkwJ4_grow_0 ++ []
theorem dksJ4_grow_0 : cJ4_grow.data.toList.drop 0 = dktJ4_grow_0 := by decide +kernel
theorem dJ4_grow_0 : decode cJ4_grow 0 = .ok (.aload_n 0, 1) := dk_42 (dk_at dksJ4_grow_0 0 rfl rfl)
theorem dJ4_grow_1 : decode cJ4_grow 1 = .ok (.aload_n 0, 1) := dk_42 (dk_at dksJ4_grow_0 1 rfl rfl)
theorem dJ4_grow_2 : decode cJ4_grow 2 = .ok (.getfield 48, 3) := dk_180 0 48 (dk_at dksJ4_grow_0 2 rfl rfl)
theorem dJ4_grow_5 : decode cJ4_grow 5 = .ok (.iconst 1, 1) := dk_4 (dk_at dksJ4_grow_0 5 rfl rfl)
theorem dJ4_grow_6 : decode cJ4_grow 6 = .ok (.iadd, 1) := dk_96 (dk_at dksJ4_grow_0 6 rfl rfl)
theorem dJ4_grow_7 : decode cJ4_grow 7 = .ok (.invokevirtual 69, 3) := dk_182 0 69 (dk_at dksJ4_grow_0 7 rfl rfl)
theorem dJ4_grow_10 : decode cJ4_grow 10 = .ok (.areturn, 1) := dk_176 (dk_at dksJ4_grow_0 10 rfl rfl)
abbrev cJ4_grow_2 : ByteArray := prog_42_method_6_code
def yJ4_grow_2 : MethodName := ⟨RJ4, "grow", "(I)[Ljava/lang/Object;"⟩
def dkwJ4_grow_2_2 : List UInt8 := [27, 184, 0, 79, 189, 0, 7, 90, 181, 0, 9, 176]
abbrev dktJ4_grow_2_2 : List UInt8 := dkwJ4_grow_2_2 ++ []
def dkwJ4_grow_2_1 : List UInt8 := [28, 4, 122, 184, 0, 73, 62, 42, 42, 180, 0, 9, 29, 184, 0, 66, 90, 181, 0, 9, 176, 42, 16, 10]
abbrev dktJ4_grow_2_1 : List UInt8 := dkwJ4_grow_2_1 ++ dktJ4_grow_2_2
def dkwJ4_grow_2_0 : List UInt8 := [42, 180, 0, 9, 190, 61, 28, 157, 0, 13, 42, 180, 0, 9, 178, 0, 39, 165, 0, 28, 28, 27, 28, 100]
abbrev dktJ4_grow_2_0 : List UInt8 := dkwJ4_grow_2_0 ++ dktJ4_grow_2_1
theorem dksJ4_grow_2_0 : cJ4_grow_2.data.toList.drop 0 = dktJ4_grow_2_0 := by decide +kernel
theorem dksJ4_grow_2_1 : cJ4_grow_2.data.toList.drop 24 = dktJ4_grow_2_1 := dk_seg dksJ4_grow_2_0 24 rfl rfl
theorem dksJ4_grow_2_2 : cJ4_grow_2.data.toList.drop 48 = dktJ4_grow_2_2 := dk_seg dksJ4_grow_2_1 24 rfl rfl
theorem dJ4_grow_2_0 : decode cJ4_grow_2 0 = .ok (.aload_n 0, 1) := dk_42 (dk_at dksJ4_grow_2_0 0 rfl rfl)
theorem dJ4_grow_2_1 : decode cJ4_grow_2 1 = .ok (.getfield 9, 3) := dk_180 0 9 (dk_at dksJ4_grow_2_0 1 rfl rfl)
theorem dJ4_grow_2_4 : decode cJ4_grow_2 4 = .ok (.arraylength, 1) := dk_190 (dk_at dksJ4_grow_2_0 4 rfl rfl)
theorem dJ4_grow_2_5 : decode cJ4_grow_2 5 = .ok (.istore_n 2, 1) := dk_61 (dk_at dksJ4_grow_2_0 5 rfl rfl)
theorem dJ4_grow_2_6 : decode cJ4_grow_2 6 = .ok (.iload_n 2, 1) := dk_28 (dk_at dksJ4_grow_2_0 6 rfl rfl)
theorem dJ4_grow_2_7 : decode cJ4_grow_2 7 = .ok (.ifCond .gt 13, 3) := dk_157 0 13 (dk_at dksJ4_grow_2_0 7 rfl rfl)
theorem dJ4_grow_2_10 : decode cJ4_grow_2 10 = .ok (.aload_n 0, 1) := dk_42 (dk_at dksJ4_grow_2_0 10 rfl rfl)
theorem dJ4_grow_2_11 : decode cJ4_grow_2 11 = .ok (.getfield 9, 3) := dk_180 0 9 (dk_at dksJ4_grow_2_0 11 rfl rfl)
theorem dJ4_grow_2_14 : decode cJ4_grow_2 14 = .ok (.getstatic 39, 3) := dk_178 0 39 (dk_at dksJ4_grow_2_0 14 rfl rfl)
theorem dJ4_grow_2_17 : decode cJ4_grow_2 17 = .ok (.if_acmp .eq 28, 3) := dk_165 0 28 (dk_at dksJ4_grow_2_0 17 rfl rfl)
theorem dJ4_grow_2_20 : decode cJ4_grow_2 20 = .ok (.iload_n 2, 1) := dk_28 (dk_at dksJ4_grow_2_0 20 rfl rfl)
theorem dJ4_grow_2_21 : decode cJ4_grow_2 21 = .ok (.iload_n 1, 1) := dk_27 (dk_at dksJ4_grow_2_0 21 rfl rfl)
theorem dJ4_grow_2_22 : decode cJ4_grow_2 22 = .ok (.iload_n 2, 1) := dk_28 (dk_at dksJ4_grow_2_0 22 rfl rfl)
theorem dJ4_grow_2_23 : decode cJ4_grow_2 23 = .ok (.isub, 1) := dk_100 (dk_at dksJ4_grow_2_0 23 rfl rfl)
theorem dJ4_grow_2_24 : decode cJ4_grow_2 24 = .ok (.iload_n 2, 1) := dk_28 (dk_at dksJ4_grow_2_1 0 rfl rfl)
theorem dJ4_grow_2_25 : decode cJ4_grow_2 25 = .ok (.iconst 1, 1) := dk_4 (dk_at dksJ4_grow_2_1 1 rfl rfl)
theorem dJ4_grow_2_26 : decode cJ4_grow_2 26 = .ok (.ishr, 1) := dk_122 (dk_at dksJ4_grow_2_1 2 rfl rfl)
theorem dJ4_grow_2_27 : decode cJ4_grow_2 27 = .ok (.invokestatic 73, 3) := dk_184 0 73 (dk_at dksJ4_grow_2_1 3 rfl rfl)
theorem dJ4_grow_2_30 : decode cJ4_grow_2 30 = .ok (.istore_n 3, 1) := dk_62 (dk_at dksJ4_grow_2_1 6 rfl rfl)
theorem dJ4_grow_2_31 : decode cJ4_grow_2 31 = .ok (.aload_n 0, 1) := dk_42 (dk_at dksJ4_grow_2_1 7 rfl rfl)
theorem dJ4_grow_2_32 : decode cJ4_grow_2 32 = .ok (.aload_n 0, 1) := dk_42 (dk_at dksJ4_grow_2_1 8 rfl rfl)
theorem dJ4_grow_2_33 : decode cJ4_grow_2 33 = .ok (.getfield 9, 3) := dk_180 0 9 (dk_at dksJ4_grow_2_1 9 rfl rfl)
theorem dJ4_grow_2_36 : decode cJ4_grow_2 36 = .ok (.iload_n 3, 1) := dk_29 (dk_at dksJ4_grow_2_1 12 rfl rfl)
theorem dJ4_grow_2_37 : decode cJ4_grow_2 37 = .ok (.invokestatic 66, 3) := dk_184 0 66 (dk_at dksJ4_grow_2_1 13 rfl rfl)
theorem dJ4_grow_2_40 : decode cJ4_grow_2 40 = .ok (.dup_x1, 1) := dk_90 (dk_at dksJ4_grow_2_1 16 rfl rfl)
theorem dJ4_grow_2_41 : decode cJ4_grow_2 41 = .ok (.putfield 9, 3) := dk_181 0 9 (dk_at dksJ4_grow_2_1 17 rfl rfl)
theorem dJ4_grow_2_44 : decode cJ4_grow_2 44 = .ok (.areturn, 1) := dk_176 (dk_at dksJ4_grow_2_1 20 rfl rfl)
theorem dJ4_grow_2_45 : decode cJ4_grow_2 45 = .ok (.aload_n 0, 1) := dk_42 (dk_at dksJ4_grow_2_1 21 rfl rfl)
theorem dJ4_grow_2_46 : decode cJ4_grow_2 46 = .ok (.bipush 10, 2) := dk_16 10 (dk_at dksJ4_grow_2_1 22 rfl rfl)
theorem dJ4_grow_2_48 : decode cJ4_grow_2 48 = .ok (.iload_n 1, 1) := dk_27 (dk_at dksJ4_grow_2_2 0 rfl rfl)
theorem dJ4_grow_2_49 : decode cJ4_grow_2 49 = .ok (.invokestatic 79, 3) := dk_184 0 79 (dk_at dksJ4_grow_2_2 1 rfl rfl)
theorem dJ4_grow_2_52 : decode cJ4_grow_2 52 = .ok (.anewarray 7, 3) := dk_189 0 7 (dk_at dksJ4_grow_2_2 4 rfl rfl)
theorem dJ4_grow_2_55 : decode cJ4_grow_2 55 = .ok (.dup_x1, 1) := dk_90 (dk_at dksJ4_grow_2_2 7 rfl rfl)
theorem dJ4_grow_2_56 : decode cJ4_grow_2 56 = .ok (.putfield 9, 3) := dk_181 0 9 (dk_at dksJ4_grow_2_2 8 rfl rfl)
theorem dJ4_grow_2_59 : decode cJ4_grow_2 59 = .ok (.areturn, 1) := dk_176 (dk_at dksJ4_grow_2_2 11 rfl rfl)
abbrev cJ4_get : ByteArray := prog_42_method_20_code
def yJ4_get : MethodName := ⟨RJ4, "get", "(I)Ljava/lang/Object;"⟩
def dkwJ4_get_0 : List UInt8 := [27, 42, 180, 0, 48, 184, 0, 118, 87, 42, 27, 182, 0, 123, 176]
abbrev dktJ4_get_0 : List UInt8 := dkwJ4_get_0 ++ []
theorem dksJ4_get_0 : cJ4_get.data.toList.drop 0 = dktJ4_get_0 := by decide +kernel
theorem dJ4_get_0 : decode cJ4_get 0 = .ok (.iload_n 1, 1) := dk_27 (dk_at dksJ4_get_0 0 rfl rfl)
theorem dJ4_get_1 : decode cJ4_get 1 = .ok (.aload_n 0, 1) := dk_42 (dk_at dksJ4_get_0 1 rfl rfl)
theorem dJ4_get_2 : decode cJ4_get 2 = .ok (.getfield 48, 3) := dk_180 0 48 (dk_at dksJ4_get_0 2 rfl rfl)
theorem dJ4_get_5 : decode cJ4_get 5 = .ok (.invokestatic 118, 3) := dk_184 0 118 (dk_at dksJ4_get_0 5 rfl rfl)
theorem dJ4_get_8 : decode cJ4_get 8 = .ok (.pop, 1) := dk_87 (dk_at dksJ4_get_0 8 rfl rfl)
theorem dJ4_get_9 : decode cJ4_get 9 = .ok (.aload_n 0, 1) := dk_42 (dk_at dksJ4_get_0 9 rfl rfl)
theorem dJ4_get_10 : decode cJ4_get 10 = .ok (.iload_n 1, 1) := dk_27 (dk_at dksJ4_get_0 10 rfl rfl)
theorem dJ4_get_11 : decode cJ4_get 11 = .ok (.invokevirtual 123, 3) := dk_182 0 123 (dk_at dksJ4_get_0 11 rfl rfl)
theorem dJ4_get_14 : decode cJ4_get 14 = .ok (.areturn, 1) := dk_176 (dk_at dksJ4_get_0 14 rfl rfl)
abbrev cJ4_elementData : ByteArray := prog_42_method_18_code
def yJ4_elementData : MethodName := ⟨RJ4, "elementData", "(I)Ljava/lang/Object;"⟩
def dkwJ4_elementData_0 : List UInt8 := [42, 180, 0, 9, 27, 50, 176]
abbrev dktJ4_elementData_0 : List UInt8 := dkwJ4_elementData_0 ++ []
theorem dksJ4_elementData_0 : cJ4_elementData.data.toList.drop 0 = dktJ4_elementData_0 := by decide +kernel
theorem dJ4_elementData_0 : decode cJ4_elementData 0 = .ok (.aload_n 0, 1) := dk_42 (dk_at dksJ4_elementData_0 0 rfl rfl)
theorem dJ4_elementData_1 : decode cJ4_elementData 1 = .ok (.getfield 9, 3) := dk_180 0 9 (dk_at dksJ4_elementData_0 1 rfl rfl)
theorem dJ4_elementData_4 : decode cJ4_elementData 4 = .ok (.iload_n 1, 1) := dk_27 (dk_at dksJ4_elementData_0 4 rfl rfl)
theorem dJ4_elementData_5 : decode cJ4_elementData 5 = .ok (.aaload, 1) := dk_50 (dk_at dksJ4_elementData_0 5 rfl rfl)
theorem dJ4_elementData_6 : decode cJ4_elementData 6 = .ok (.areturn, 1) := dk_176 (dk_at dksJ4_elementData_0 6 rfl rfl)
abbrev cJ4_contains : ByteArray := prog_42_method_10_code
def yJ4_contains : MethodName := ⟨RJ4, "contains", "(Ljava/lang/Object;)Z"⟩
def dkwJ4_contains_0 : List UInt8 := [42, 43, 182, 0, 85, 155, 0, 7, 4, 167, 0, 4, 3, 172]
abbrev dktJ4_contains_0 : List UInt8 := dkwJ4_contains_0 ++ []
theorem dksJ4_contains_0 : cJ4_contains.data.toList.drop 0 = dktJ4_contains_0 := by decide +kernel
theorem dJ4_contains_0 : decode cJ4_contains 0 = .ok (.aload_n 0, 1) := dk_42 (dk_at dksJ4_contains_0 0 rfl rfl)
theorem dJ4_contains_1 : decode cJ4_contains 1 = .ok (.aload_n 1, 1) := dk_43 (dk_at dksJ4_contains_0 1 rfl rfl)
theorem dJ4_contains_2 : decode cJ4_contains 2 = .ok (.invokevirtual 85, 3) := dk_182 0 85 (dk_at dksJ4_contains_0 2 rfl rfl)
theorem dJ4_contains_5 : decode cJ4_contains 5 = .ok (.ifCond .lt 7, 3) := dk_155 0 7 (dk_at dksJ4_contains_0 5 rfl rfl)
theorem dJ4_contains_8 : decode cJ4_contains 8 = .ok (.iconst 1, 1) := dk_4 (dk_at dksJ4_contains_0 8 rfl rfl)
theorem dJ4_contains_9 : decode cJ4_contains 9 = .ok (.goto 4, 3) := dk_167 0 4 (dk_at dksJ4_contains_0 9 rfl rfl)
theorem dJ4_contains_12 : decode cJ4_contains 12 = .ok (.iconst 0, 1) := dk_3 (dk_at dksJ4_contains_0 12 rfl rfl)
theorem dJ4_contains_13 : decode cJ4_contains 13 = .ok (.ireturn, 1) := dk_172 (dk_at dksJ4_contains_0 13 rfl rfl)
abbrev cJ4_indexOf : ByteArray := prog_42_method_11_code
def yJ4_indexOf : MethodName := ⟨RJ4, "indexOf", "(Ljava/lang/Object;)I"⟩
def dkwJ4_indexOf_0 : List UInt8 := [42, 43, 3, 42, 180, 0, 48, 182, 0, 89, 172]
abbrev dktJ4_indexOf_0 : List UInt8 := dkwJ4_indexOf_0 ++ []
theorem dksJ4_indexOf_0 : cJ4_indexOf.data.toList.drop 0 = dktJ4_indexOf_0 := by decide +kernel
theorem dJ4_indexOf_0 : decode cJ4_indexOf 0 = .ok (.aload_n 0, 1) := dk_42 (dk_at dksJ4_indexOf_0 0 rfl rfl)
theorem dJ4_indexOf_1 : decode cJ4_indexOf 1 = .ok (.aload_n 1, 1) := dk_43 (dk_at dksJ4_indexOf_0 1 rfl rfl)
theorem dJ4_indexOf_2 : decode cJ4_indexOf 2 = .ok (.iconst 0, 1) := dk_3 (dk_at dksJ4_indexOf_0 2 rfl rfl)
theorem dJ4_indexOf_3 : decode cJ4_indexOf 3 = .ok (.aload_n 0, 1) := dk_42 (dk_at dksJ4_indexOf_0 3 rfl rfl)
theorem dJ4_indexOf_4 : decode cJ4_indexOf 4 = .ok (.getfield 48, 3) := dk_180 0 48 (dk_at dksJ4_indexOf_0 4 rfl rfl)
theorem dJ4_indexOf_7 : decode cJ4_indexOf 7 = .ok (.invokevirtual 89, 3) := dk_182 0 89 (dk_at dksJ4_indexOf_0 7 rfl rfl)
theorem dJ4_indexOf_10 : decode cJ4_indexOf 10 = .ok (.ireturn, 1) := dk_172 (dk_at dksJ4_indexOf_0 10 rfl rfl)
abbrev cJ4_indexOfRange : ByteArray := prog_42_method_12_code
def yJ4_indexOfRange : MethodName := ⟨RJ4, "indexOfRange", "(Ljava/lang/Object;II)I"⟩
def dkwJ4_indexOfRange_2 : List UInt8 := [43, 25, 4, 21, 5, 50, 182, 0, 93, 153, 0, 6, 21, 5, 172, 132, 5, 1, 167, 255, 232, 2, 172]
abbrev dktJ4_indexOfRange_2 : List UInt8 := dkwJ4_indexOfRange_2 ++ []
def dkwJ4_indexOfRange_1 : List UInt8 := [199, 0, 6, 21, 5, 172, 132, 5, 1, 167, 255, 236, 167, 0, 33, 28, 54, 5, 21, 5, 29, 162, 0, 24]
abbrev dktJ4_indexOfRange_1 : List UInt8 := dkwJ4_indexOfRange_1 ++ dktJ4_indexOfRange_2
def dkwJ4_indexOfRange_0 : List UInt8 := [42, 180, 0, 9, 58, 4, 43, 199, 0, 32, 28, 54, 5, 21, 5, 29, 162, 0, 20, 25, 4, 21, 5, 50]
abbrev dktJ4_indexOfRange_0 : List UInt8 := dkwJ4_indexOfRange_0 ++ dktJ4_indexOfRange_1
theorem dksJ4_indexOfRange_0 : cJ4_indexOfRange.data.toList.drop 0 = dktJ4_indexOfRange_0 := by decide +kernel
theorem dksJ4_indexOfRange_1 : cJ4_indexOfRange.data.toList.drop 24 = dktJ4_indexOfRange_1 := dk_seg dksJ4_indexOfRange_0 24 rfl rfl
theorem dksJ4_indexOfRange_2 : cJ4_indexOfRange.data.toList.drop 48 = dktJ4_indexOfRange_2 := dk_seg dksJ4_indexOfRange_1 24 rfl rfl
theorem dJ4_indexOfRange_0 : decode cJ4_indexOfRange 0 = .ok (.aload_n 0, 1) := dk_42 (dk_at dksJ4_indexOfRange_0 0 rfl rfl)
theorem dJ4_indexOfRange_1 : decode cJ4_indexOfRange 1 = .ok (.getfield 9, 3) := dk_180 0 9 (dk_at dksJ4_indexOfRange_0 1 rfl rfl)
theorem dJ4_indexOfRange_4 : decode cJ4_indexOfRange 4 = .ok (.astore 4, 2) := dk_58 4 (dk_at dksJ4_indexOfRange_0 4 rfl rfl)
theorem dJ4_indexOfRange_6 : decode cJ4_indexOfRange 6 = .ok (.aload_n 1, 1) := dk_43 (dk_at dksJ4_indexOfRange_0 6 rfl rfl)
theorem dJ4_indexOfRange_7 : decode cJ4_indexOfRange 7 = .ok (.ifnonnull 32, 3) := dk_199 0 32 (dk_at dksJ4_indexOfRange_0 7 rfl rfl)
theorem dJ4_indexOfRange_10 : decode cJ4_indexOfRange 10 = .ok (.iload_n 2, 1) := dk_28 (dk_at dksJ4_indexOfRange_0 10 rfl rfl)
theorem dJ4_indexOfRange_11 : decode cJ4_indexOfRange 11 = .ok (.istore 5, 2) := dk_54 5 (dk_at dksJ4_indexOfRange_0 11 rfl rfl)
theorem dJ4_indexOfRange_13 : decode cJ4_indexOfRange 13 = .ok (.iload 5, 2) := dk_21 5 (dk_at dksJ4_indexOfRange_0 13 rfl rfl)
theorem dJ4_indexOfRange_15 : decode cJ4_indexOfRange 15 = .ok (.iload_n 3, 1) := dk_29 (dk_at dksJ4_indexOfRange_0 15 rfl rfl)
theorem dJ4_indexOfRange_16 : decode cJ4_indexOfRange 16 = .ok (.if_icmp .ge 20, 3) := dk_162 0 20 (dk_at dksJ4_indexOfRange_0 16 rfl rfl)
theorem dJ4_indexOfRange_19 : decode cJ4_indexOfRange 19 = .ok (.aload 4, 2) := dk_25 4 (dk_at dksJ4_indexOfRange_0 19 rfl rfl)
theorem dJ4_indexOfRange_21 : decode cJ4_indexOfRange 21 = .ok (.iload 5, 2) := dk_21 5 (dk_at dksJ4_indexOfRange_0 21 rfl rfl)
theorem dJ4_indexOfRange_23 : decode cJ4_indexOfRange 23 = .ok (.aaload, 1) := dk_50 (dk_at dksJ4_indexOfRange_0 23 rfl rfl)
theorem dJ4_indexOfRange_24 : decode cJ4_indexOfRange 24 = .ok (.ifnonnull 6, 3) := dk_199 0 6 (dk_at dksJ4_indexOfRange_1 0 rfl rfl)
theorem dJ4_indexOfRange_27 : decode cJ4_indexOfRange 27 = .ok (.iload 5, 2) := dk_21 5 (dk_at dksJ4_indexOfRange_1 3 rfl rfl)
theorem dJ4_indexOfRange_29 : decode cJ4_indexOfRange 29 = .ok (.ireturn, 1) := dk_172 (dk_at dksJ4_indexOfRange_1 5 rfl rfl)
theorem dJ4_indexOfRange_30 : decode cJ4_indexOfRange 30 = .ok (.iinc 5 1, 3) := dk_132 5 1 (dk_at dksJ4_indexOfRange_1 6 rfl rfl)
theorem dJ4_indexOfRange_33 : decode cJ4_indexOfRange 33 = .ok (.goto (-20), 3) := dk_167 255 236 (dk_at dksJ4_indexOfRange_1 9 rfl rfl)
theorem dJ4_indexOfRange_36 : decode cJ4_indexOfRange 36 = .ok (.goto 33, 3) := dk_167 0 33 (dk_at dksJ4_indexOfRange_1 12 rfl rfl)
theorem dJ4_indexOfRange_39 : decode cJ4_indexOfRange 39 = .ok (.iload_n 2, 1) := dk_28 (dk_at dksJ4_indexOfRange_1 15 rfl rfl)
theorem dJ4_indexOfRange_40 : decode cJ4_indexOfRange 40 = .ok (.istore 5, 2) := dk_54 5 (dk_at dksJ4_indexOfRange_1 16 rfl rfl)
theorem dJ4_indexOfRange_42 : decode cJ4_indexOfRange 42 = .ok (.iload 5, 2) := dk_21 5 (dk_at dksJ4_indexOfRange_1 18 rfl rfl)
theorem dJ4_indexOfRange_44 : decode cJ4_indexOfRange 44 = .ok (.iload_n 3, 1) := dk_29 (dk_at dksJ4_indexOfRange_1 20 rfl rfl)
theorem dJ4_indexOfRange_45 : decode cJ4_indexOfRange 45 = .ok (.if_icmp .ge 24, 3) := dk_162 0 24 (dk_at dksJ4_indexOfRange_1 21 rfl rfl)
theorem dJ4_indexOfRange_48 : decode cJ4_indexOfRange 48 = .ok (.aload_n 1, 1) := dk_43 (dk_at dksJ4_indexOfRange_2 0 rfl rfl)
theorem dJ4_indexOfRange_49 : decode cJ4_indexOfRange 49 = .ok (.aload 4, 2) := dk_25 4 (dk_at dksJ4_indexOfRange_2 1 rfl rfl)
theorem dJ4_indexOfRange_51 : decode cJ4_indexOfRange 51 = .ok (.iload 5, 2) := dk_21 5 (dk_at dksJ4_indexOfRange_2 3 rfl rfl)
theorem dJ4_indexOfRange_53 : decode cJ4_indexOfRange 53 = .ok (.aaload, 1) := dk_50 (dk_at dksJ4_indexOfRange_2 5 rfl rfl)
theorem dJ4_indexOfRange_54 : decode cJ4_indexOfRange 54 = .ok (.invokevirtual 93, 3) := dk_182 0 93 (dk_at dksJ4_indexOfRange_2 6 rfl rfl)
theorem dJ4_indexOfRange_57 : decode cJ4_indexOfRange 57 = .ok (.ifCond .eq 6, 3) := dk_153 0 6 (dk_at dksJ4_indexOfRange_2 9 rfl rfl)
theorem dJ4_indexOfRange_60 : decode cJ4_indexOfRange 60 = .ok (.iload 5, 2) := dk_21 5 (dk_at dksJ4_indexOfRange_2 12 rfl rfl)
theorem dJ4_indexOfRange_62 : decode cJ4_indexOfRange 62 = .ok (.ireturn, 1) := dk_172 (dk_at dksJ4_indexOfRange_2 14 rfl rfl)
theorem dJ4_indexOfRange_63 : decode cJ4_indexOfRange 63 = .ok (.iinc 5 1, 3) := dk_132 5 1 (dk_at dksJ4_indexOfRange_2 15 rfl rfl)
theorem dJ4_indexOfRange_66 : decode cJ4_indexOfRange 66 = .ok (.goto (-24), 3) := dk_167 255 232 (dk_at dksJ4_indexOfRange_2 18 rfl rfl)
theorem dJ4_indexOfRange_69 : decode cJ4_indexOfRange 69 = .ok (.iconst (-1), 1) := dk_2 (dk_at dksJ4_indexOfRange_2 21 rfl rfl)
theorem dJ4_indexOfRange_70 : decode cJ4_indexOfRange 70 = .ok (.ireturn, 1) := dk_172 (dk_at dksJ4_indexOfRange_2 22 rfl rfl)
abbrev cJ4_isEmpty : ByteArray := prog_42_method_9_code
def yJ4_isEmpty : MethodName := ⟨RJ4, "isEmpty", "()Z"⟩
def dkwJ4_isEmpty_0 : List UInt8 := [42, 180, 0, 48, 154, 0, 7, 4, 167, 0, 4, 3, 172]
abbrev dktJ4_isEmpty_0 : List UInt8 := dkwJ4_isEmpty_0 ++ []
theorem dksJ4_isEmpty_0 : cJ4_isEmpty.data.toList.drop 0 = dktJ4_isEmpty_0 := by decide +kernel
theorem dJ4_isEmpty_0 : decode cJ4_isEmpty 0 = .ok (.aload_n 0, 1) := dk_42 (dk_at dksJ4_isEmpty_0 0 rfl rfl)
theorem dJ4_isEmpty_1 : decode cJ4_isEmpty 1 = .ok (.getfield 48, 3) := dk_180 0 48 (dk_at dksJ4_isEmpty_0 1 rfl rfl)
theorem dJ4_isEmpty_4 : decode cJ4_isEmpty 4 = .ok (.ifCond .ne 7, 3) := dk_154 0 7 (dk_at dksJ4_isEmpty_0 4 rfl rfl)
theorem dJ4_isEmpty_7 : decode cJ4_isEmpty 7 = .ok (.iconst 1, 1) := dk_4 (dk_at dksJ4_isEmpty_0 7 rfl rfl)
theorem dJ4_isEmpty_8 : decode cJ4_isEmpty 8 = .ok (.goto 4, 3) := dk_167 0 4 (dk_at dksJ4_isEmpty_0 8 rfl rfl)
theorem dJ4_isEmpty_11 : decode cJ4_isEmpty 11 = .ok (.iconst 0, 1) := dk_3 (dk_at dksJ4_isEmpty_0 11 rfl rfl)
theorem dJ4_isEmpty_12 : decode cJ4_isEmpty 12 = .ok (.ireturn, 1) := dk_172 (dk_at dksJ4_isEmpty_0 12 rfl rfl)
abbrev cJ4_clear : ByteArray := prog_42_method_40_code
def yJ4_clear : MethodName := ⟨RJ4, "clear", "()V"⟩
def dkwJ4_clear_1 : List UInt8 := [181, 0, 48, 62, 29, 28, 162, 0, 13, 43, 29, 1, 83, 132, 3, 1, 167, 255, 244, 177]
abbrev dktJ4_clear_1 : List UInt8 := dkwJ4_clear_1 ++ []
def dkwJ4_clear_0 : List UInt8 := [42, 89, 180, 0, 63, 4, 96, 181, 0, 63, 42, 180, 0, 9, 76, 42, 180, 0, 48, 61, 42, 3, 90]
abbrev dktJ4_clear_0 : List UInt8 := dkwJ4_clear_0 ++ dktJ4_clear_1
theorem dksJ4_clear_0 : cJ4_clear.data.toList.drop 0 = dktJ4_clear_0 := by decide +kernel
theorem dksJ4_clear_1 : cJ4_clear.data.toList.drop 23 = dktJ4_clear_1 := dk_seg dksJ4_clear_0 23 rfl rfl
theorem dJ4_clear_0 : decode cJ4_clear 0 = .ok (.aload_n 0, 1) := dk_42 (dk_at dksJ4_clear_0 0 rfl rfl)
theorem dJ4_clear_1 : decode cJ4_clear 1 = .ok (.dup, 1) := dk_89 (dk_at dksJ4_clear_0 1 rfl rfl)
theorem dJ4_clear_2 : decode cJ4_clear 2 = .ok (.getfield 63, 3) := dk_180 0 63 (dk_at dksJ4_clear_0 2 rfl rfl)
theorem dJ4_clear_5 : decode cJ4_clear 5 = .ok (.iconst 1, 1) := dk_4 (dk_at dksJ4_clear_0 5 rfl rfl)
theorem dJ4_clear_6 : decode cJ4_clear 6 = .ok (.iadd, 1) := dk_96 (dk_at dksJ4_clear_0 6 rfl rfl)
theorem dJ4_clear_7 : decode cJ4_clear 7 = .ok (.putfield 63, 3) := dk_181 0 63 (dk_at dksJ4_clear_0 7 rfl rfl)
theorem dJ4_clear_10 : decode cJ4_clear 10 = .ok (.aload_n 0, 1) := dk_42 (dk_at dksJ4_clear_0 10 rfl rfl)
theorem dJ4_clear_11 : decode cJ4_clear 11 = .ok (.getfield 9, 3) := dk_180 0 9 (dk_at dksJ4_clear_0 11 rfl rfl)
theorem dJ4_clear_14 : decode cJ4_clear 14 = .ok (.astore_n 1, 1) := dk_76 (dk_at dksJ4_clear_0 14 rfl rfl)
theorem dJ4_clear_15 : decode cJ4_clear 15 = .ok (.aload_n 0, 1) := dk_42 (dk_at dksJ4_clear_0 15 rfl rfl)
theorem dJ4_clear_16 : decode cJ4_clear 16 = .ok (.getfield 48, 3) := dk_180 0 48 (dk_at dksJ4_clear_0 16 rfl rfl)
theorem dJ4_clear_19 : decode cJ4_clear 19 = .ok (.istore_n 2, 1) := dk_61 (dk_at dksJ4_clear_0 19 rfl rfl)
theorem dJ4_clear_20 : decode cJ4_clear 20 = .ok (.aload_n 0, 1) := dk_42 (dk_at dksJ4_clear_0 20 rfl rfl)
theorem dJ4_clear_21 : decode cJ4_clear 21 = .ok (.iconst 0, 1) := dk_3 (dk_at dksJ4_clear_0 21 rfl rfl)
theorem dJ4_clear_22 : decode cJ4_clear 22 = .ok (.dup_x1, 1) := dk_90 (dk_at dksJ4_clear_0 22 rfl rfl)
theorem dJ4_clear_23 : decode cJ4_clear 23 = .ok (.putfield 48, 3) := dk_181 0 48 (dk_at dksJ4_clear_1 0 rfl rfl)
theorem dJ4_clear_26 : decode cJ4_clear 26 = .ok (.istore_n 3, 1) := dk_62 (dk_at dksJ4_clear_1 3 rfl rfl)
theorem dJ4_clear_27 : decode cJ4_clear 27 = .ok (.iload_n 3, 1) := dk_29 (dk_at dksJ4_clear_1 4 rfl rfl)
theorem dJ4_clear_28 : decode cJ4_clear 28 = .ok (.iload_n 2, 1) := dk_28 (dk_at dksJ4_clear_1 5 rfl rfl)
theorem dJ4_clear_29 : decode cJ4_clear 29 = .ok (.if_icmp .ge 13, 3) := dk_162 0 13 (dk_at dksJ4_clear_1 6 rfl rfl)
theorem dJ4_clear_32 : decode cJ4_clear 32 = .ok (.aload_n 1, 1) := dk_43 (dk_at dksJ4_clear_1 9 rfl rfl)
theorem dJ4_clear_33 : decode cJ4_clear 33 = .ok (.iload_n 3, 1) := dk_29 (dk_at dksJ4_clear_1 10 rfl rfl)
theorem dJ4_clear_34 : decode cJ4_clear 34 = .ok (.aconst_null, 1) := dk_1 (dk_at dksJ4_clear_1 11 rfl rfl)
theorem dJ4_clear_35 : decode cJ4_clear 35 = .ok (.aastore, 1) := dk_83 (dk_at dksJ4_clear_1 12 rfl rfl)
theorem dJ4_clear_36 : decode cJ4_clear 36 = .ok (.iinc 3 1, 3) := dk_132 3 1 (dk_at dksJ4_clear_1 13 rfl rfl)
theorem dJ4_clear_39 : decode cJ4_clear 39 = .ok (.goto (-12), 3) := dk_167 255 244 (dk_at dksJ4_clear_1 16 rfl rfl)
theorem dJ4_clear_42 : decode cJ4_clear 42 = .ok (.return_, 1) := dk_177 (dk_at dksJ4_clear_1 19 rfl rfl)
theorem q83 : (Jvm.Cond.initialized "java/util/ArrayList") ∈ lw_all := lw_g (lw_at lw_m1 8 rfl) rfl
theorem q213 : (Jvm.Cond.instantiable "java/util/ArrayList" (3 : Nat)) ∈ lw_all := lw_g (lw_at lw_m1 138 rfl) rfl
theorem q215 : (Jvm.Cond.instanceMethod ({ cls := "java/util/ArrayList", name := "<init>", desc := "()V" } : Jvm.MethodName)) ∈ lw_all := lw_g (lw_at lw_m1 140 rfl) rfl
theorem q216 : (Jvm.Cond.code ({ cls := "java/util/ArrayList", name := "<init>", desc := "()V" } : Jvm.MethodName) prog_42_method_2_code (1 : Nat) (Option.none : Option Jvm.ClassFile.FieldType)) ∈ lw_all := lw_g (lw_at lw_m1 141 rfl) rfl
theorem q217 : (Jvm.Cond.methodLink "java/util/ArrayList" (1 : Nat) ({ cls := "java/util/AbstractList", name := "<init>", desc := "()V" } : Jvm.MethodName)) ∈ lw_all := lw_g (lw_at lw_m1 142 rfl) rfl
theorem q224 : (Jvm.Cond.fieldLink "java/util/ArrayList" (39 : Nat) "java/util/ArrayList" "DEFAULTCAPACITY_EMPTY_ELEMENTDATA" "[Ljava/lang/Object;") ∈ lw_all := lw_g (lw_at lw_m1 149 rfl) rfl
theorem q225 : (Jvm.Cond.laysStatic "java/util/ArrayList" "DEFAULTCAPACITY_EMPTY_ELEMENTDATA" "[Ljava/lang/Object;") ∈ lw_tbl := lw_at lw_m1 150 rfl
theorem q226 : (Jvm.Cond.fieldLink "java/util/ArrayList" (9 : Nat) "java/util/ArrayList" "elementData" "[Ljava/lang/Object;") ∈ lw_all := lw_g (lw_at lw_m1 151 rfl) rfl
theorem q227 : (Jvm.Cond.fieldLink "java/util/ArrayList" (48 : Nat) "java/util/ArrayList" "size" "I") ∈ lw_all := lw_g (lw_at lw_m1 152 rfl) rfl
theorem q229 : (Jvm.Cond.fieldLink "java/util/ArrayList" (63 : Nat) "java/util/ArrayList" "modCount" "I") ∈ lw_all := lw_g (lw_at lw_m1 154 rfl) rfl
theorem q230 : (Jvm.Cond.sameField "java/util/ArrayList" "java/util/AbstractList" "modCount" "I") ∈ lw_all := lw_g (lw_at lw_m1 155 rfl) rfl
theorem q231 : (Jvm.Cond.lays "java/util/ArrayList" "java/util/ArrayList" "elementData" "[Ljava/lang/Object;") ∈ lw_all := lw_g (lw_at lw_m1 156 rfl) rfl
theorem q232 : (Jvm.Cond.soleField "java/util/ArrayList" "elementData") ∈ lw_all := lw_g (lw_at lw_m1 157 rfl) rfl
theorem q233 : (Jvm.Cond.lays "java/util/ArrayList" "java/util/ArrayList" "size" "I") ∈ lw_all := lw_g (lw_at lw_m1 158 rfl) rfl
theorem q234 : (Jvm.Cond.soleField "java/util/ArrayList" "size") ∈ lw_all := lw_g (lw_at lw_m1 159 rfl) rfl
theorem q235 : (Jvm.Cond.lays "java/util/ArrayList" "java/util/AbstractList" "modCount" "I") ∈ lw_all := lw_g (lw_at lw_m1 160 rfl) rfl
theorem q237 : (Jvm.Cond.superclass "java/util/ArrayList" "java/util/AbstractList") ∈ lw_all := lw_g (lw_at lw_m1 162 rfl) rfl
theorem q413 : (Jvm.Cond.instanceMethod ({ cls := "java/util/ArrayList", name := "size", desc := "()I" } : Jvm.MethodName)) ∈ lw_all := lw_g (lw_at lw_m2 98 rfl) rfl
theorem q414 : (Jvm.Cond.selects "java/util/ArrayList" ({ cls := "java/util/ArrayList", name := "size", desc := "()I" } : Jvm.MethodName) ({ cls := "java/util/ArrayList", name := "size", desc := "()I" } : Jvm.MethodName)) ∈ lw_all := lw_g (lw_at lw_m2 99 rfl) rfl
theorem q415 : (Jvm.Cond.code ({ cls := "java/util/ArrayList", name := "size", desc := "()I" } : Jvm.MethodName) prog_42_method_8_code (1 : Nat) (Option.some Jvm.ClassFile.FieldType.int)) ∈ lw_all := lw_g (lw_at lw_m2 100 rfl) rfl
theorem q469 : (Jvm.Cond.instanceMethod ({ cls := "java/util/ArrayList", name := "add", desc := "(Ljava/lang/Object;)Z" } : Jvm.MethodName)) ∈ lw_all := lw_g (lw_at lw_m2 154 rfl) rfl
theorem q470 : (Jvm.Cond.selects "java/util/ArrayList" ({ cls := "java/util/ArrayList", name := "add", desc := "(Ljava/lang/Object;)Z" } : Jvm.MethodName) ({ cls := "java/util/ArrayList", name := "add", desc := "(Ljava/lang/Object;)Z" } : Jvm.MethodName)) ∈ lw_all := lw_g (lw_at lw_m2 155 rfl) rfl
theorem q471 : (Jvm.Cond.code ({ cls := "java/util/ArrayList", name := "add", desc := "(Ljava/lang/Object;)Z" } : Jvm.MethodName) prog_42_method_25_code (2 : Nat) (Option.some Jvm.ClassFile.FieldType.boolean)) ∈ lw_all := lw_g (lw_at lw_m2 156 rfl) rfl
theorem q472 : (Jvm.Cond.methodLink "java/util/ArrayList" (131 : Nat) ({ cls := "java/util/ArrayList", name := "add", desc := "(Ljava/lang/Object;[Ljava/lang/Object;I)V" } : Jvm.MethodName)) ∈ lw_all := lw_g (lw_at lw_m2 157 rfl) rfl
theorem q473 : (Jvm.Cond.privateMethod ({ cls := "java/util/ArrayList", name := "add", desc := "(Ljava/lang/Object;[Ljava/lang/Object;I)V" } : Jvm.MethodName)) ∈ lw_tbl := lw_at lw_m2 158 rfl
theorem q474 : (Jvm.Cond.instanceMethod ({ cls := "java/util/ArrayList", name := "add", desc := "(Ljava/lang/Object;[Ljava/lang/Object;I)V" } : Jvm.MethodName)) ∈ lw_all := lw_g (lw_at lw_m2 159 rfl) rfl
theorem q475 : (Jvm.Cond.code ({ cls := "java/util/ArrayList", name := "add", desc := "(Ljava/lang/Object;[Ljava/lang/Object;I)V" } : Jvm.MethodName) prog_42_method_24_code (4 : Nat) (Option.none : Option Jvm.ClassFile.FieldType)) ∈ lw_all := lw_g (lw_at lw_m2 160 rfl) rfl
theorem q476 : (Jvm.Cond.methodLink "java/util/ArrayList" (129 : Nat) ({ cls := "java/util/ArrayList", name := "grow", desc := "()[Ljava/lang/Object;" } : Jvm.MethodName)) ∈ lw_all := lw_g (lw_at lw_m2 161 rfl) rfl
theorem q477 : (Jvm.Cond.privateMethod ({ cls := "java/util/ArrayList", name := "grow", desc := "()[Ljava/lang/Object;" } : Jvm.MethodName)) ∈ lw_tbl := lw_at lw_m2 162 rfl
theorem q478 : (Jvm.Cond.instanceMethod ({ cls := "java/util/ArrayList", name := "grow", desc := "()[Ljava/lang/Object;" } : Jvm.MethodName)) ∈ lw_all := lw_g (lw_at lw_m2 163 rfl) rfl
theorem q479 : (Jvm.Cond.code ({ cls := "java/util/ArrayList", name := "grow", desc := "()[Ljava/lang/Object;" } : Jvm.MethodName) prog_42_method_7_code (1 : Nat) (Option.some (Jvm.ClassFile.FieldType.array (Jvm.ClassFile.FieldType.object "java/lang/Object")))) ∈ lw_all := lw_g (lw_at lw_m2 164 rfl) rfl
theorem q480 : (Jvm.Cond.methodLink "java/util/ArrayList" (69 : Nat) ({ cls := "java/util/ArrayList", name := "grow", desc := "(I)[Ljava/lang/Object;" } : Jvm.MethodName)) ∈ lw_all := lw_g (lw_at lw_m2 165 rfl) rfl
theorem q481 : (Jvm.Cond.privateMethod ({ cls := "java/util/ArrayList", name := "grow", desc := "(I)[Ljava/lang/Object;" } : Jvm.MethodName)) ∈ lw_tbl := lw_at lw_m2 166 rfl
theorem q482 : (Jvm.Cond.instanceMethod ({ cls := "java/util/ArrayList", name := "grow", desc := "(I)[Ljava/lang/Object;" } : Jvm.MethodName)) ∈ lw_all := lw_g (lw_at lw_m2 167 rfl) rfl
theorem q483 : (Jvm.Cond.code ({ cls := "java/util/ArrayList", name := "grow", desc := "(I)[Ljava/lang/Object;" } : Jvm.MethodName) prog_42_method_6_code (4 : Nat) (Option.some (Jvm.ClassFile.FieldType.array (Jvm.ClassFile.FieldType.object "java/lang/Object")))) ∈ lw_all := lw_g (lw_at lw_m2 168 rfl) rfl
theorem q484 : (Jvm.Cond.methodLink "java/util/ArrayList" (73 : Nat) ({ cls := "jdk/internal/util/ArraysSupport", name := "newLength", desc := "(III)I" } : Jvm.MethodName)) ∈ lw_all := lw_g (lw_at lw_m2 169 rfl) rfl
theorem q494 : (Jvm.Cond.methodLink "java/util/ArrayList" (66 : Nat) ({ cls := "java/util/Arrays", name := "copyOf", desc := "([Ljava/lang/Object;I)[Ljava/lang/Object;" } : Jvm.MethodName)) ∈ lw_all := lw_g (lw_at lw_m2 179 rfl) rfl
theorem q529 : (Jvm.Cond.selects "java/util/ArrayList" ({ cls := "java/lang/Object", name := "getClass", desc := "()Ljava/lang/Class;" } : Jvm.MethodName) ({ cls := "java/lang/Object", name := "getClass", desc := "()Ljava/lang/Class;" } : Jvm.MethodName)) ∈ lw_all := lw_g (lw_at lw_m2 214 rfl) rfl
theorem q543 : (Jvm.Cond.methodLink "java/util/ArrayList" (79 : Nat) ({ cls := "java/lang/Math", name := "max", desc := "(II)I" } : Jvm.MethodName)) ∈ lw_all := lw_g (lw_at lw_m2 228 rfl) rfl
theorem q544 : (Jvm.Cond.classLink "java/util/ArrayList" (7 : Nat) "java/lang/Object") ∈ lw_all := lw_g (lw_at lw_m2 229 rfl) rfl
theorem q554 : (Jvm.Cond.instanceMethod ({ cls := "java/util/ArrayList", name := "get", desc := "(I)Ljava/lang/Object;" } : Jvm.MethodName)) ∈ lw_all := lw_g (lw_at lw_m2 239 rfl) rfl
theorem q555 : (Jvm.Cond.selects "java/util/ArrayList" ({ cls := "java/util/ArrayList", name := "get", desc := "(I)Ljava/lang/Object;" } : Jvm.MethodName) ({ cls := "java/util/ArrayList", name := "get", desc := "(I)Ljava/lang/Object;" } : Jvm.MethodName)) ∈ lw_all := lw_g (lw_at lw_m3 0 rfl) rfl
theorem q556 : (Jvm.Cond.code ({ cls := "java/util/ArrayList", name := "get", desc := "(I)Ljava/lang/Object;" } : Jvm.MethodName) prog_42_method_20_code (2 : Nat) (Option.some (Jvm.ClassFile.FieldType.object "java/lang/Object"))) ∈ lw_all := lw_g (lw_at lw_m3 1 rfl) rfl
theorem q557 : (Jvm.Cond.methodLink "java/util/ArrayList" (118 : Nat) ({ cls := "java/util/Objects", name := "checkIndex", desc := "(II)I" } : Jvm.MethodName)) ∈ lw_all := lw_g (lw_at lw_m3 2 rfl) rfl
theorem q563 : (Jvm.Cond.methodLink "java/util/ArrayList" (123 : Nat) ({ cls := "java/util/ArrayList", name := "elementData", desc := "(I)Ljava/lang/Object;" } : Jvm.MethodName)) ∈ lw_all := lw_g (lw_at lw_m3 8 rfl) rfl
theorem q564 : (Jvm.Cond.instanceMethod ({ cls := "java/util/ArrayList", name := "elementData", desc := "(I)Ljava/lang/Object;" } : Jvm.MethodName)) ∈ lw_all := lw_g (lw_at lw_m3 9 rfl) rfl
theorem q565 : (Jvm.Cond.selects "java/util/ArrayList" ({ cls := "java/util/ArrayList", name := "elementData", desc := "(I)Ljava/lang/Object;" } : Jvm.MethodName) ({ cls := "java/util/ArrayList", name := "elementData", desc := "(I)Ljava/lang/Object;" } : Jvm.MethodName)) ∈ lw_all := lw_g (lw_at lw_m3 10 rfl) rfl
theorem q566 : (Jvm.Cond.code ({ cls := "java/util/ArrayList", name := "elementData", desc := "(I)Ljava/lang/Object;" } : Jvm.MethodName) prog_42_method_18_code (2 : Nat) (Option.some (Jvm.ClassFile.FieldType.object "java/lang/Object"))) ∈ lw_all := lw_g (lw_at lw_m3 11 rfl) rfl
theorem q568 : (Jvm.Cond.instanceMethod ({ cls := "java/util/ArrayList", name := "contains", desc := "(Ljava/lang/Object;)Z" } : Jvm.MethodName)) ∈ lw_all := lw_g (lw_at lw_m3 13 rfl) rfl
theorem q569 : (Jvm.Cond.selects "java/util/ArrayList" ({ cls := "java/util/ArrayList", name := "contains", desc := "(Ljava/lang/Object;)Z" } : Jvm.MethodName) ({ cls := "java/util/ArrayList", name := "contains", desc := "(Ljava/lang/Object;)Z" } : Jvm.MethodName)) ∈ lw_all := lw_g (lw_at lw_m3 14 rfl) rfl
theorem q570 : (Jvm.Cond.code ({ cls := "java/util/ArrayList", name := "contains", desc := "(Ljava/lang/Object;)Z" } : Jvm.MethodName) prog_42_method_10_code (2 : Nat) (Option.some Jvm.ClassFile.FieldType.boolean)) ∈ lw_all := lw_g (lw_at lw_m3 15 rfl) rfl
theorem q571 : (Jvm.Cond.methodLink "java/util/ArrayList" (85 : Nat) ({ cls := "java/util/ArrayList", name := "indexOf", desc := "(Ljava/lang/Object;)I" } : Jvm.MethodName)) ∈ lw_all := lw_g (lw_at lw_m3 16 rfl) rfl
theorem q572 : (Jvm.Cond.instanceMethod ({ cls := "java/util/ArrayList", name := "indexOf", desc := "(Ljava/lang/Object;)I" } : Jvm.MethodName)) ∈ lw_all := lw_g (lw_at lw_m3 17 rfl) rfl
theorem q573 : (Jvm.Cond.selects "java/util/ArrayList" ({ cls := "java/util/ArrayList", name := "indexOf", desc := "(Ljava/lang/Object;)I" } : Jvm.MethodName) ({ cls := "java/util/ArrayList", name := "indexOf", desc := "(Ljava/lang/Object;)I" } : Jvm.MethodName)) ∈ lw_all := lw_g (lw_at lw_m3 18 rfl) rfl
theorem q574 : (Jvm.Cond.code ({ cls := "java/util/ArrayList", name := "indexOf", desc := "(Ljava/lang/Object;)I" } : Jvm.MethodName) prog_42_method_11_code (2 : Nat) (Option.some Jvm.ClassFile.FieldType.int)) ∈ lw_all := lw_g (lw_at lw_m3 19 rfl) rfl
theorem q575 : (Jvm.Cond.methodLink "java/util/ArrayList" (89 : Nat) ({ cls := "java/util/ArrayList", name := "indexOfRange", desc := "(Ljava/lang/Object;II)I" } : Jvm.MethodName)) ∈ lw_all := lw_g (lw_at lw_m3 20 rfl) rfl
theorem q576 : (Jvm.Cond.instanceMethod ({ cls := "java/util/ArrayList", name := "indexOfRange", desc := "(Ljava/lang/Object;II)I" } : Jvm.MethodName)) ∈ lw_all := lw_g (lw_at lw_m3 21 rfl) rfl
theorem q577 : (Jvm.Cond.selects "java/util/ArrayList" ({ cls := "java/util/ArrayList", name := "indexOfRange", desc := "(Ljava/lang/Object;II)I" } : Jvm.MethodName) ({ cls := "java/util/ArrayList", name := "indexOfRange", desc := "(Ljava/lang/Object;II)I" } : Jvm.MethodName)) ∈ lw_all := lw_g (lw_at lw_m3 22 rfl) rfl
theorem q578 : (Jvm.Cond.code ({ cls := "java/util/ArrayList", name := "indexOfRange", desc := "(Ljava/lang/Object;II)I" } : Jvm.MethodName) prog_42_method_12_code (6 : Nat) (Option.some Jvm.ClassFile.FieldType.int)) ∈ lw_all := lw_g (lw_at lw_m3 23 rfl) rfl
theorem q580 : (Jvm.Cond.methodLink "java/util/ArrayList" (93 : Nat) ({ cls := "java/lang/Object", name := "equals", desc := "(Ljava/lang/Object;)Z" } : Jvm.MethodName)) ∈ lw_all := lw_g (lw_at lw_m3 25 rfl) rfl
theorem q614 : (Jvm.Cond.instanceMethod ({ cls := "java/util/ArrayList", name := "isEmpty", desc := "()Z" } : Jvm.MethodName)) ∈ lw_all := lw_g (lw_at lw_m3 59 rfl) rfl
theorem q615 : (Jvm.Cond.selects "java/util/ArrayList" ({ cls := "java/util/ArrayList", name := "isEmpty", desc := "()Z" } : Jvm.MethodName) ({ cls := "java/util/ArrayList", name := "isEmpty", desc := "()Z" } : Jvm.MethodName)) ∈ lw_all := lw_g (lw_at lw_m3 60 rfl) rfl
theorem q616 : (Jvm.Cond.code ({ cls := "java/util/ArrayList", name := "isEmpty", desc := "()Z" } : Jvm.MethodName) prog_42_method_9_code (1 : Nat) (Option.some Jvm.ClassFile.FieldType.boolean)) ∈ lw_all := lw_g (lw_at lw_m3 61 rfl) rfl
theorem q1188 : (Jvm.Cond.instanceMethod ({ cls := "java/util/ArrayList", name := "clear", desc := "()V" } : Jvm.MethodName)) ∈ lw_all := lw_g (lw_at lw_m5 153 rfl) rfl
theorem q1189 : (Jvm.Cond.selects "java/util/ArrayList" ({ cls := "java/util/ArrayList", name := "clear", desc := "()V" } : Jvm.MethodName) ({ cls := "java/util/ArrayList", name := "clear", desc := "()V" } : Jvm.MethodName)) ∈ lw_all := lw_g (lw_at lw_m5 154 rfl) rfl
theorem q1190 : (Jvm.Cond.code ({ cls := "java/util/ArrayList", name := "clear", desc := "()V" } : Jvm.MethodName) prog_42_method_40_code (4 : Nat) (Option.none : Option Jvm.ClassFile.FieldType)) ∈ lw_all := lw_g (lw_at lw_m5 155 rfl) rfl
theorem q2075 : (Jvm.Cond.castable "java/util/ArrayList" "java/lang/Object") ∈ lw_tbl := lw_at lw_m9 80 rfl
theorem in_J4 : ∀ w ∈ wsJ40, w ∈ lw_all := lw_in wsJ40 [235, 231, 233] (by decide +kernel) (by decide +kernel)
/-! jdk/internal/util/ArraysSupport -/
set_option maxRecDepth 100000
def RJ5 : String := "jdk/internal/util/ArraysSupport"
abbrev cJ5_newLength : ByteArray := prog_49_method_27_code
def yJ5_newLength : MethodName := ⟨RJ5, "newLength", "(III)I"⟩
def dkwJ5_newLength_1 : List UInt8 := [184, 0, 201, 172]
abbrev dktJ5_newLength_1 : List UInt8 := dkwJ5_newLength_1 ++ []
def dkwJ5_newLength_0 : List UInt8 := [26, 27, 28, 184, 0, 194, 96, 62, 3, 29, 162, 0, 11, 29, 18, 200, 163, 0, 5, 29, 172, 26, 27]
abbrev dktJ5_newLength_0 : List UInt8 := dkwJ5_newLength_0 ++ dktJ5_newLength_1
theorem dksJ5_newLength_0 : cJ5_newLength.data.toList.drop 0 = dktJ5_newLength_0 := by decide +kernel
theorem dksJ5_newLength_1 : cJ5_newLength.data.toList.drop 23 = dktJ5_newLength_1 := dk_seg dksJ5_newLength_0 23 rfl rfl
theorem dJ5_newLength_0 : decode cJ5_newLength 0 = .ok (.iload_n 0, 1) := dk_26 (dk_at dksJ5_newLength_0 0 rfl rfl)
theorem dJ5_newLength_1 : decode cJ5_newLength 1 = .ok (.iload_n 1, 1) := dk_27 (dk_at dksJ5_newLength_0 1 rfl rfl)
theorem dJ5_newLength_2 : decode cJ5_newLength 2 = .ok (.iload_n 2, 1) := dk_28 (dk_at dksJ5_newLength_0 2 rfl rfl)
theorem dJ5_newLength_3 : decode cJ5_newLength 3 = .ok (.invokestatic 194, 3) := dk_184 0 194 (dk_at dksJ5_newLength_0 3 rfl rfl)
theorem dJ5_newLength_6 : decode cJ5_newLength 6 = .ok (.iadd, 1) := dk_96 (dk_at dksJ5_newLength_0 6 rfl rfl)
theorem dJ5_newLength_7 : decode cJ5_newLength 7 = .ok (.istore_n 3, 1) := dk_62 (dk_at dksJ5_newLength_0 7 rfl rfl)
theorem dJ5_newLength_8 : decode cJ5_newLength 8 = .ok (.iconst 0, 1) := dk_3 (dk_at dksJ5_newLength_0 8 rfl rfl)
theorem dJ5_newLength_9 : decode cJ5_newLength 9 = .ok (.iload_n 3, 1) := dk_29 (dk_at dksJ5_newLength_0 9 rfl rfl)
theorem dJ5_newLength_10 : decode cJ5_newLength 10 = .ok (.if_icmp .ge 11, 3) := dk_162 0 11 (dk_at dksJ5_newLength_0 10 rfl rfl)
theorem dJ5_newLength_13 : decode cJ5_newLength 13 = .ok (.iload_n 3, 1) := dk_29 (dk_at dksJ5_newLength_0 13 rfl rfl)
theorem dJ5_newLength_14 : decode cJ5_newLength 14 = .ok (.ldc 200, 2) := dk_18 200 (dk_at dksJ5_newLength_0 14 rfl rfl)
theorem dJ5_newLength_16 : decode cJ5_newLength 16 = .ok (.if_icmp .gt 5, 3) := dk_163 0 5 (dk_at dksJ5_newLength_0 16 rfl rfl)
theorem dJ5_newLength_19 : decode cJ5_newLength 19 = .ok (.iload_n 3, 1) := dk_29 (dk_at dksJ5_newLength_0 19 rfl rfl)
theorem dJ5_newLength_20 : decode cJ5_newLength 20 = .ok (.ireturn, 1) := dk_172 (dk_at dksJ5_newLength_0 20 rfl rfl)
theorem dJ5_newLength_21 : decode cJ5_newLength 21 = .ok (.iload_n 0, 1) := dk_26 (dk_at dksJ5_newLength_0 21 rfl rfl)
theorem dJ5_newLength_22 : decode cJ5_newLength 22 = .ok (.iload_n 1, 1) := dk_27 (dk_at dksJ5_newLength_0 22 rfl rfl)
theorem dJ5_newLength_23 : decode cJ5_newLength 23 = .ok (.invokestatic 201, 3) := dk_184 0 201 (dk_at dksJ5_newLength_1 0 rfl rfl)
theorem dJ5_newLength_26 : decode cJ5_newLength 26 = .ok (.ireturn, 1) := dk_172 (dk_at dksJ5_newLength_1 3 rfl rfl)
abbrev cJ5_hugeLength : ByteArray := prog_49_method_28_code
def yJ5_hugeLength : MethodName := ⟨RJ5, "hugeLength", "(II)I"⟩
def dkwJ5_hugeLength_2 : List UInt8 := [191, 28, 18, 200, 163, 0, 6, 18, 200, 172, 28, 172]
abbrev dktJ5_hugeLength_2 : List UInt8 := dkwJ5_hugeLength_2 ++ []
def dkwJ5_hugeLength_1 : List UInt8 := [26, 182, 0, 98, 18, 208, 182, 0, 94, 27, 182, 0, 98, 18, 210, 182, 0, 94, 182, 0, 101, 183, 0, 212]
abbrev dktJ5_hugeLength_1 : List UInt8 := dkwJ5_hugeLength_1 ++ dktJ5_hugeLength_2
def dkwJ5_hugeLength_0 : List UInt8 := [26, 27, 96, 61, 28, 156, 0, 44, 187, 0, 204, 89, 187, 0, 89, 89, 183, 0, 91, 18, 206, 182, 0, 94]
abbrev dktJ5_hugeLength_0 : List UInt8 := dkwJ5_hugeLength_0 ++ dktJ5_hugeLength_1
theorem dksJ5_hugeLength_0 : cJ5_hugeLength.data.toList.drop 0 = dktJ5_hugeLength_0 := by decide +kernel
theorem dksJ5_hugeLength_1 : cJ5_hugeLength.data.toList.drop 24 = dktJ5_hugeLength_1 := dk_seg dksJ5_hugeLength_0 24 rfl rfl
theorem dksJ5_hugeLength_2 : cJ5_hugeLength.data.toList.drop 48 = dktJ5_hugeLength_2 := dk_seg dksJ5_hugeLength_1 24 rfl rfl
theorem dJ5_hugeLength_0 : decode cJ5_hugeLength 0 = .ok (.iload_n 0, 1) := dk_26 (dk_at dksJ5_hugeLength_0 0 rfl rfl)
theorem dJ5_hugeLength_1 : decode cJ5_hugeLength 1 = .ok (.iload_n 1, 1) := dk_27 (dk_at dksJ5_hugeLength_0 1 rfl rfl)
theorem dJ5_hugeLength_2 : decode cJ5_hugeLength 2 = .ok (.iadd, 1) := dk_96 (dk_at dksJ5_hugeLength_0 2 rfl rfl)
theorem dJ5_hugeLength_3 : decode cJ5_hugeLength 3 = .ok (.istore_n 2, 1) := dk_61 (dk_at dksJ5_hugeLength_0 3 rfl rfl)
theorem dJ5_hugeLength_4 : decode cJ5_hugeLength 4 = .ok (.iload_n 2, 1) := dk_28 (dk_at dksJ5_hugeLength_0 4 rfl rfl)
theorem dJ5_hugeLength_5 : decode cJ5_hugeLength 5 = .ok (.ifCond .ge 44, 3) := dk_156 0 44 (dk_at dksJ5_hugeLength_0 5 rfl rfl)
theorem dJ5_hugeLength_8 : decode cJ5_hugeLength 8 = .ok (.new 204, 3) := dk_187 0 204 (dk_at dksJ5_hugeLength_0 8 rfl rfl)
theorem dJ5_hugeLength_11 : decode cJ5_hugeLength 11 = .ok (.dup, 1) := dk_89 (dk_at dksJ5_hugeLength_0 11 rfl rfl)
theorem dJ5_hugeLength_12 : decode cJ5_hugeLength 12 = .ok (.new 89, 3) := dk_187 0 89 (dk_at dksJ5_hugeLength_0 12 rfl rfl)
theorem dJ5_hugeLength_15 : decode cJ5_hugeLength 15 = .ok (.dup, 1) := dk_89 (dk_at dksJ5_hugeLength_0 15 rfl rfl)
theorem dJ5_hugeLength_16 : decode cJ5_hugeLength 16 = .ok (.invokespecial 91, 3) := dk_183 0 91 (dk_at dksJ5_hugeLength_0 16 rfl rfl)
theorem dJ5_hugeLength_19 : decode cJ5_hugeLength 19 = .ok (.ldc 206, 2) := dk_18 206 (dk_at dksJ5_hugeLength_0 19 rfl rfl)
theorem dJ5_hugeLength_21 : decode cJ5_hugeLength 21 = .ok (.invokevirtual 94, 3) := dk_182 0 94 (dk_at dksJ5_hugeLength_0 21 rfl rfl)
theorem dJ5_hugeLength_24 : decode cJ5_hugeLength 24 = .ok (.iload_n 0, 1) := dk_26 (dk_at dksJ5_hugeLength_1 0 rfl rfl)
theorem dJ5_hugeLength_25 : decode cJ5_hugeLength 25 = .ok (.invokevirtual 98, 3) := dk_182 0 98 (dk_at dksJ5_hugeLength_1 1 rfl rfl)
theorem dJ5_hugeLength_28 : decode cJ5_hugeLength 28 = .ok (.ldc 208, 2) := dk_18 208 (dk_at dksJ5_hugeLength_1 4 rfl rfl)
theorem dJ5_hugeLength_30 : decode cJ5_hugeLength 30 = .ok (.invokevirtual 94, 3) := dk_182 0 94 (dk_at dksJ5_hugeLength_1 6 rfl rfl)
theorem dJ5_hugeLength_33 : decode cJ5_hugeLength 33 = .ok (.iload_n 1, 1) := dk_27 (dk_at dksJ5_hugeLength_1 9 rfl rfl)
theorem dJ5_hugeLength_34 : decode cJ5_hugeLength 34 = .ok (.invokevirtual 98, 3) := dk_182 0 98 (dk_at dksJ5_hugeLength_1 10 rfl rfl)
theorem dJ5_hugeLength_37 : decode cJ5_hugeLength 37 = .ok (.ldc 210, 2) := dk_18 210 (dk_at dksJ5_hugeLength_1 13 rfl rfl)
theorem dJ5_hugeLength_39 : decode cJ5_hugeLength 39 = .ok (.invokevirtual 94, 3) := dk_182 0 94 (dk_at dksJ5_hugeLength_1 15 rfl rfl)
theorem dJ5_hugeLength_42 : decode cJ5_hugeLength 42 = .ok (.invokevirtual 101, 3) := dk_182 0 101 (dk_at dksJ5_hugeLength_1 18 rfl rfl)
theorem dJ5_hugeLength_45 : decode cJ5_hugeLength 45 = .ok (.invokespecial 212, 3) := dk_183 0 212 (dk_at dksJ5_hugeLength_1 21 rfl rfl)
theorem dJ5_hugeLength_48 : decode cJ5_hugeLength 48 = .ok (.athrow, 1) := dk_191 (dk_at dksJ5_hugeLength_2 0 rfl rfl)
theorem dJ5_hugeLength_49 : decode cJ5_hugeLength 49 = .ok (.iload_n 2, 1) := dk_28 (dk_at dksJ5_hugeLength_2 1 rfl rfl)
theorem dJ5_hugeLength_50 : decode cJ5_hugeLength 50 = .ok (.ldc 200, 2) := dk_18 200 (dk_at dksJ5_hugeLength_2 2 rfl rfl)
theorem dJ5_hugeLength_52 : decode cJ5_hugeLength 52 = .ok (.if_icmp .gt 6, 3) := dk_163 0 6 (dk_at dksJ5_hugeLength_2 4 rfl rfl)
theorem dJ5_hugeLength_55 : decode cJ5_hugeLength 55 = .ok (.ldc 200, 2) := dk_18 200 (dk_at dksJ5_hugeLength_2 7 rfl rfl)
theorem dJ5_hugeLength_57 : decode cJ5_hugeLength 57 = .ok (.ireturn, 1) := dk_172 (dk_at dksJ5_hugeLength_2 9 rfl rfl)
theorem dJ5_hugeLength_58 : decode cJ5_hugeLength 58 = .ok (.iload_n 2, 1) := dk_28 (dk_at dksJ5_hugeLength_2 10 rfl rfl)
theorem dJ5_hugeLength_59 : decode cJ5_hugeLength 59 = .ok (.ireturn, 1) := dk_172 (dk_at dksJ5_hugeLength_2 11 rfl rfl)
theorem q87 : (Jvm.Cond.initialized "jdk/internal/util/ArraysSupport") ∈ lw_all := lw_g (lw_at lw_m1 12 rfl) rfl
theorem q485 : (Jvm.Cond.static ({ cls := "jdk/internal/util/ArraysSupport", name := "newLength", desc := "(III)I" } : Jvm.MethodName)) ∈ lw_all := lw_g (lw_at lw_m2 170 rfl) rfl
theorem q486 : (Jvm.Cond.code ({ cls := "jdk/internal/util/ArraysSupport", name := "newLength", desc := "(III)I" } : Jvm.MethodName) prog_49_method_27_code (4 : Nat) (Option.some Jvm.ClassFile.FieldType.int)) ∈ lw_all := lw_g (lw_at lw_m2 171 rfl) rfl
theorem q487 : (Jvm.Cond.methodLink "jdk/internal/util/ArraysSupport" (194 : Nat) ({ cls := "java/lang/Math", name := "max", desc := "(II)I" } : Jvm.MethodName)) ∈ lw_all := lw_g (lw_at lw_m2 172 rfl) rfl
theorem q490 : (Jvm.Cond.constant "jdk/internal/util/ArraysSupport" (200 : Nat) (2147483639 : Int32)) ∈ lw_all := lw_g (lw_at lw_m2 175 rfl) rfl
theorem q491 : (Jvm.Cond.methodLink "jdk/internal/util/ArraysSupport" (201 : Nat) ({ cls := "jdk/internal/util/ArraysSupport", name := "hugeLength", desc := "(II)I" } : Jvm.MethodName)) ∈ lw_all := lw_g (lw_at lw_m2 176 rfl) rfl
theorem q492 : (Jvm.Cond.static ({ cls := "jdk/internal/util/ArraysSupport", name := "hugeLength", desc := "(II)I" } : Jvm.MethodName)) ∈ lw_all := lw_g (lw_at lw_m2 177 rfl) rfl
theorem q493 : (Jvm.Cond.code ({ cls := "jdk/internal/util/ArraysSupport", name := "hugeLength", desc := "(II)I" } : Jvm.MethodName) prog_49_method_28_code (3 : Nat) (Option.some Jvm.ClassFile.FieldType.int)) ∈ lw_all := lw_g (lw_at lw_m2 178 rfl) rfl
/-! java/lang/Math -/
set_option maxRecDepth 100000
def RJ6 : String := "java/lang/Math"
abbrev cJ6_max : ByteArray := prog_37_method_65_code
def yJ6_max : MethodName := ⟨RJ6, "max", "(II)I"⟩
def dkwJ6_max_0 : List UInt8 := [26, 27, 161, 0, 7, 26, 167, 0, 4, 27, 172]
abbrev dktJ6_max_0 : List UInt8 := dkwJ6_max_0 ++ []
theorem dksJ6_max_0 : cJ6_max.data.toList.drop 0 = dktJ6_max_0 := by decide +kernel
theorem dJ6_max_0 : decode cJ6_max 0 = .ok (.iload_n 0, 1) := dk_26 (dk_at dksJ6_max_0 0 rfl rfl)
theorem dJ6_max_1 : decode cJ6_max 1 = .ok (.iload_n 1, 1) := dk_27 (dk_at dksJ6_max_0 1 rfl rfl)
theorem dJ6_max_2 : decode cJ6_max 2 = .ok (.if_icmp .lt 7, 3) := dk_161 0 7 (dk_at dksJ6_max_0 2 rfl rfl)
theorem dJ6_max_5 : decode cJ6_max 5 = .ok (.iload_n 0, 1) := dk_26 (dk_at dksJ6_max_0 5 rfl rfl)
theorem dJ6_max_6 : decode cJ6_max 6 = .ok (.goto 4, 3) := dk_167 0 4 (dk_at dksJ6_max_0 6 rfl rfl)
theorem dJ6_max_9 : decode cJ6_max 9 = .ok (.iload_n 1, 1) := dk_27 (dk_at dksJ6_max_0 9 rfl rfl)
theorem dJ6_max_10 : decode cJ6_max 10 = .ok (.ireturn, 1) := dk_172 (dk_at dksJ6_max_0 10 rfl rfl)
abbrev cJ6_min : ByteArray := prog_37_method_69_code
def yJ6_min : MethodName := ⟨RJ6, "min", "(II)I"⟩
def dkwJ6_min_0 : List UInt8 := [26, 27, 163, 0, 7, 26, 167, 0, 4, 27, 172]
abbrev dktJ6_min_0 : List UInt8 := dkwJ6_min_0 ++ []
theorem dksJ6_min_0 : cJ6_min.data.toList.drop 0 = dktJ6_min_0 := by decide +kernel
theorem dJ6_min_0 : decode cJ6_min 0 = .ok (.iload_n 0, 1) := dk_26 (dk_at dksJ6_min_0 0 rfl rfl)
theorem dJ6_min_1 : decode cJ6_min 1 = .ok (.iload_n 1, 1) := dk_27 (dk_at dksJ6_min_0 1 rfl rfl)
theorem dJ6_min_2 : decode cJ6_min 2 = .ok (.if_icmp .gt 7, 3) := dk_163 0 7 (dk_at dksJ6_min_0 2 rfl rfl)
theorem dJ6_min_5 : decode cJ6_min 5 = .ok (.iload_n 0, 1) := dk_26 (dk_at dksJ6_min_0 5 rfl rfl)
theorem dJ6_min_6 : decode cJ6_min 6 = .ok (.goto 4, 3) := dk_167 0 4 (dk_at dksJ6_min_0 6 rfl rfl)
theorem dJ6_min_9 : decode cJ6_min 9 = .ok (.iload_n 1, 1) := dk_27 (dk_at dksJ6_min_0 9 rfl rfl)
theorem dJ6_min_10 : decode cJ6_min 10 = .ok (.ireturn, 1) := dk_172 (dk_at dksJ6_min_0 10 rfl rfl)
theorem q88 : (Jvm.Cond.initialized "java/lang/Math") ∈ lw_all := lw_g (lw_at lw_m1 13 rfl) rfl
theorem q488 : (Jvm.Cond.static ({ cls := "java/lang/Math", name := "max", desc := "(II)I" } : Jvm.MethodName)) ∈ lw_all := lw_g (lw_at lw_m2 173 rfl) rfl
theorem q489 : (Jvm.Cond.code ({ cls := "java/lang/Math", name := "max", desc := "(II)I" } : Jvm.MethodName) prog_37_method_65_code (2 : Nat) (Option.some Jvm.ClassFile.FieldType.int)) ∈ lw_all := lw_g (lw_at lw_m2 174 rfl) rfl
theorem q538 : (Jvm.Cond.static ({ cls := "java/lang/Math", name := "min", desc := "(II)I" } : Jvm.MethodName)) ∈ lw_all := lw_g (lw_at lw_m2 223 rfl) rfl
theorem q539 : (Jvm.Cond.code ({ cls := "java/lang/Math", name := "min", desc := "(II)I" } : Jvm.MethodName) prog_37_method_69_code (2 : Nat) (Option.some Jvm.ClassFile.FieldType.int)) ∈ lw_all := lw_g (lw_at lw_m2 224 rfl) rfl
/-! java/util/Arrays -/
set_option maxRecDepth 100000
def RJ7 : String := "java/util/Arrays"
abbrev cJ7_copyOf : ByteArray := prog_43_method_119_code
def yJ7_copyOf : MethodName := ⟨RJ7, "copyOf", "([Ljava/lang/Object;I)[Ljava/lang/Object;"⟩
def dkwJ7_copyOf_0 : List UInt8 := [42, 27, 42, 182, 0, 86, 184, 1, 44, 176]
abbrev dktJ7_copyOf_0 : List UInt8 := dkwJ7_copyOf_0 ++ []
theorem dksJ7_copyOf_0 : cJ7_copyOf.data.toList.drop 0 = dktJ7_copyOf_0 := by decide +kernel
theorem dJ7_copyOf_0 : decode cJ7_copyOf 0 = .ok (.aload_n 0, 1) := dk_42 (dk_at dksJ7_copyOf_0 0 rfl rfl)
theorem dJ7_copyOf_1 : decode cJ7_copyOf 1 = .ok (.iload_n 1, 1) := dk_27 (dk_at dksJ7_copyOf_0 1 rfl rfl)
theorem dJ7_copyOf_2 : decode cJ7_copyOf 2 = .ok (.aload_n 0, 1) := dk_42 (dk_at dksJ7_copyOf_0 2 rfl rfl)
theorem dJ7_copyOf_3 : decode cJ7_copyOf 3 = .ok (.invokevirtual 86, 3) := dk_182 0 86 (dk_at dksJ7_copyOf_0 3 rfl rfl)
theorem dJ7_copyOf_6 : decode cJ7_copyOf 6 = .ok (.invokestatic 300, 3) := dk_184 1 44 (dk_at dksJ7_copyOf_0 6 rfl rfl)
theorem dJ7_copyOf_9 : decode cJ7_copyOf 9 = .ok (.areturn, 1) := dk_176 (dk_at dksJ7_copyOf_0 9 rfl rfl)
abbrev cJ7_copyOf_2 : ByteArray := prog_43_method_120_code
def yJ7_copyOf_2 : MethodName := ⟨RJ7, "copyOf", "([Ljava/lang/Object;ILjava/lang/Class;)[Ljava/lang/Object;"⟩
def dkwJ7_copyOf_2_1 : List UInt8 := [78, 42, 3, 45, 3, 42, 190, 27, 184, 1, 48, 184, 0, 150, 45, 176]
abbrev dktJ7_copyOf_2_1 : List UInt8 := dkwJ7_copyOf_2_1 ++ []
def dkwJ7_copyOf_2_0 : List UInt8 := [44, 18, 110, 166, 0, 10, 27, 189, 0, 2, 167, 0, 14, 44, 182, 0, 90, 27, 184, 0, 95, 192, 0, 110]
abbrev dktJ7_copyOf_2_0 : List UInt8 := dkwJ7_copyOf_2_0 ++ dktJ7_copyOf_2_1
theorem dksJ7_copyOf_2_0 : cJ7_copyOf_2.data.toList.drop 0 = dktJ7_copyOf_2_0 := by decide +kernel
theorem dksJ7_copyOf_2_1 : cJ7_copyOf_2.data.toList.drop 24 = dktJ7_copyOf_2_1 := dk_seg dksJ7_copyOf_2_0 24 rfl rfl
theorem dJ7_copyOf_2_0 : decode cJ7_copyOf_2 0 = .ok (.aload_n 2, 1) := dk_44 (dk_at dksJ7_copyOf_2_0 0 rfl rfl)
theorem dJ7_copyOf_2_1 : decode cJ7_copyOf_2 1 = .ok (.ldc 110, 2) := dk_18 110 (dk_at dksJ7_copyOf_2_0 1 rfl rfl)
theorem dJ7_copyOf_2_3 : decode cJ7_copyOf_2 3 = .ok (.if_acmp .ne 10, 3) := dk_166 0 10 (dk_at dksJ7_copyOf_2_0 3 rfl rfl)
theorem dJ7_copyOf_2_6 : decode cJ7_copyOf_2 6 = .ok (.iload_n 1, 1) := dk_27 (dk_at dksJ7_copyOf_2_0 6 rfl rfl)
theorem dJ7_copyOf_2_7 : decode cJ7_copyOf_2 7 = .ok (.anewarray 2, 3) := dk_189 0 2 (dk_at dksJ7_copyOf_2_0 7 rfl rfl)
theorem dJ7_copyOf_2_10 : decode cJ7_copyOf_2 10 = .ok (.goto 14, 3) := dk_167 0 14 (dk_at dksJ7_copyOf_2_0 10 rfl rfl)
theorem dJ7_copyOf_2_13 : decode cJ7_copyOf_2 13 = .ok (.aload_n 2, 1) := dk_44 (dk_at dksJ7_copyOf_2_0 13 rfl rfl)
theorem dJ7_copyOf_2_14 : decode cJ7_copyOf_2 14 = .ok (.invokevirtual 90, 3) := dk_182 0 90 (dk_at dksJ7_copyOf_2_0 14 rfl rfl)
theorem dJ7_copyOf_2_17 : decode cJ7_copyOf_2 17 = .ok (.iload_n 1, 1) := dk_27 (dk_at dksJ7_copyOf_2_0 17 rfl rfl)
theorem dJ7_copyOf_2_18 : decode cJ7_copyOf_2 18 = .ok (.invokestatic 95, 3) := dk_184 0 95 (dk_at dksJ7_copyOf_2_0 18 rfl rfl)
theorem dJ7_copyOf_2_21 : decode cJ7_copyOf_2 21 = .ok (.checkcast 110, 3) := dk_192 0 110 (dk_at dksJ7_copyOf_2_0 21 rfl rfl)
theorem dJ7_copyOf_2_24 : decode cJ7_copyOf_2 24 = .ok (.astore_n 3, 1) := dk_78 (dk_at dksJ7_copyOf_2_1 0 rfl rfl)
theorem dJ7_copyOf_2_25 : decode cJ7_copyOf_2 25 = .ok (.aload_n 0, 1) := dk_42 (dk_at dksJ7_copyOf_2_1 1 rfl rfl)
theorem dJ7_copyOf_2_26 : decode cJ7_copyOf_2 26 = .ok (.iconst 0, 1) := dk_3 (dk_at dksJ7_copyOf_2_1 2 rfl rfl)
theorem dJ7_copyOf_2_27 : decode cJ7_copyOf_2 27 = .ok (.aload_n 3, 1) := dk_45 (dk_at dksJ7_copyOf_2_1 3 rfl rfl)
theorem dJ7_copyOf_2_28 : decode cJ7_copyOf_2 28 = .ok (.iconst 0, 1) := dk_3 (dk_at dksJ7_copyOf_2_1 4 rfl rfl)
theorem dJ7_copyOf_2_29 : decode cJ7_copyOf_2 29 = .ok (.aload_n 0, 1) := dk_42 (dk_at dksJ7_copyOf_2_1 5 rfl rfl)
theorem dJ7_copyOf_2_30 : decode cJ7_copyOf_2 30 = .ok (.arraylength, 1) := dk_190 (dk_at dksJ7_copyOf_2_1 6 rfl rfl)
theorem dJ7_copyOf_2_31 : decode cJ7_copyOf_2 31 = .ok (.iload_n 1, 1) := dk_27 (dk_at dksJ7_copyOf_2_1 7 rfl rfl)
theorem dJ7_copyOf_2_32 : decode cJ7_copyOf_2 32 = .ok (.invokestatic 304, 3) := dk_184 1 48 (dk_at dksJ7_copyOf_2_1 8 rfl rfl)
theorem dJ7_copyOf_2_35 : decode cJ7_copyOf_2 35 = .ok (.invokestatic 150, 3) := dk_184 0 150 (dk_at dksJ7_copyOf_2_1 11 rfl rfl)
theorem dJ7_copyOf_2_38 : decode cJ7_copyOf_2 38 = .ok (.aload_n 3, 1) := dk_45 (dk_at dksJ7_copyOf_2_1 14 rfl rfl)
theorem dJ7_copyOf_2_39 : decode cJ7_copyOf_2 39 = .ok (.areturn, 1) := dk_176 (dk_at dksJ7_copyOf_2_1 15 rfl rfl)
theorem q89 : (Jvm.Cond.initialized "java/util/Arrays") ∈ lw_all := lw_g (lw_at lw_m1 14 rfl) rfl
theorem q495 : (Jvm.Cond.static ({ cls := "java/util/Arrays", name := "copyOf", desc := "([Ljava/lang/Object;I)[Ljava/lang/Object;" } : Jvm.MethodName)) ∈ lw_all := lw_g (lw_at lw_m2 180 rfl) rfl
theorem q496 : (Jvm.Cond.code ({ cls := "java/util/Arrays", name := "copyOf", desc := "([Ljava/lang/Object;I)[Ljava/lang/Object;" } : Jvm.MethodName) prog_43_method_119_code (2 : Nat) (Option.some (Jvm.ClassFile.FieldType.array (Jvm.ClassFile.FieldType.object "java/lang/Object")))) ∈ lw_all := lw_g (lw_at lw_m2 181 rfl) rfl
theorem q497 : (Jvm.Cond.methodLink "java/util/Arrays" (86 : Nat) ({ cls := "java/lang/Object", name := "getClass", desc := "()Ljava/lang/Class;" } : Jvm.MethodName)) ∈ lw_all := lw_g (lw_at lw_m2 182 rfl) rfl
theorem q531 : (Jvm.Cond.methodLink "java/util/Arrays" (300 : Nat) ({ cls := "java/util/Arrays", name := "copyOf", desc := "([Ljava/lang/Object;ILjava/lang/Class;)[Ljava/lang/Object;" } : Jvm.MethodName)) ∈ lw_all := lw_g (lw_at lw_m2 216 rfl) rfl
theorem q532 : (Jvm.Cond.static ({ cls := "java/util/Arrays", name := "copyOf", desc := "([Ljava/lang/Object;ILjava/lang/Class;)[Ljava/lang/Object;" } : Jvm.MethodName)) ∈ lw_all := lw_g (lw_at lw_m2 217 rfl) rfl
theorem q533 : (Jvm.Cond.code ({ cls := "java/util/Arrays", name := "copyOf", desc := "([Ljava/lang/Object;ILjava/lang/Class;)[Ljava/lang/Object;" } : Jvm.MethodName) prog_43_method_120_code (4 : Nat) (Option.some (Jvm.ClassFile.FieldType.array (Jvm.ClassFile.FieldType.object "java/lang/Object")))) ∈ lw_all := lw_g (lw_at lw_m2 218 rfl) rfl
theorem q534 : (Jvm.Cond.classLink "java/util/Arrays" (110 : Nat) "[Ljava/lang/Object;") ∈ lw_all := lw_g (lw_at lw_m2 219 rfl) rfl
theorem q536 : (Jvm.Cond.classLink "java/util/Arrays" (2 : Nat) "java/lang/Object") ∈ lw_all := lw_g (lw_at lw_m2 221 rfl) rfl
theorem q537 : (Jvm.Cond.methodLink "java/util/Arrays" (304 : Nat) ({ cls := "java/lang/Math", name := "min", desc := "(II)I" } : Jvm.MethodName)) ∈ lw_all := lw_g (lw_at lw_m2 222 rfl) rfl
theorem q540 : (Jvm.Cond.methodLink "java/util/Arrays" (150 : Nat) ({ cls := "java/lang/System", name := "arraycopy", desc := "(Ljava/lang/Object;ILjava/lang/Object;II)V" } : Jvm.MethodName)) ∈ lw_all := lw_g (lw_at lw_m2 225 rfl) rfl
/-! java/util/Objects -/
set_option maxRecDepth 100000
def RJ8 : String := "java/util/Objects"
abbrev cJ8_checkIndex : ByteArray := prog_46_method_17_code
def yJ8_checkIndex : MethodName := ⟨RJ8, "checkIndex", "(II)I"⟩
def dkwJ8_checkIndex_0 : List UInt8 := [26, 27, 1, 184, 0, 105, 172]
abbrev dktJ8_checkIndex_0 : List UInt8 := dkwJ8_checkIndex_0 ++ []
theorem dksJ8_checkIndex_0 : cJ8_checkIndex.data.toList.drop 0 = dktJ8_checkIndex_0 := by decide +kernel
theorem dJ8_checkIndex_0 : decode cJ8_checkIndex 0 = .ok (.iload_n 0, 1) := dk_26 (dk_at dksJ8_checkIndex_0 0 rfl rfl)
theorem dJ8_checkIndex_1 : decode cJ8_checkIndex 1 = .ok (.iload_n 1, 1) := dk_27 (dk_at dksJ8_checkIndex_0 1 rfl rfl)
theorem dJ8_checkIndex_2 : decode cJ8_checkIndex 2 = .ok (.aconst_null, 1) := dk_1 (dk_at dksJ8_checkIndex_0 2 rfl rfl)
theorem dJ8_checkIndex_3 : decode cJ8_checkIndex 3 = .ok (.invokestatic 105, 3) := dk_184 0 105 (dk_at dksJ8_checkIndex_0 3 rfl rfl)
theorem dJ8_checkIndex_6 : decode cJ8_checkIndex 6 = .ok (.ireturn, 1) := dk_172 (dk_at dksJ8_checkIndex_0 6 rfl rfl)
theorem q91 : (Jvm.Cond.initialized "java/util/Objects") ∈ lw_all := lw_g (lw_at lw_m1 16 rfl) rfl
theorem q558 : (Jvm.Cond.static ({ cls := "java/util/Objects", name := "checkIndex", desc := "(II)I" } : Jvm.MethodName)) ∈ lw_all := lw_g (lw_at lw_m3 3 rfl) rfl
theorem q559 : (Jvm.Cond.code ({ cls := "java/util/Objects", name := "checkIndex", desc := "(II)I" } : Jvm.MethodName) prog_46_method_17_code (2 : Nat) (Option.some Jvm.ClassFile.FieldType.int)) ∈ lw_all := lw_g (lw_at lw_m3 4 rfl) rfl
theorem q560 : (Jvm.Cond.methodLink "java/util/Objects" (105 : Nat) ({ cls := "jdk/internal/util/Preconditions", name := "checkIndex", desc := "(IILjava/util/function/BiFunction;)I" } : Jvm.MethodName)) ∈ lw_all := lw_g (lw_at lw_m3 5 rfl) rfl
/-! jdk/internal/util/Preconditions -/
set_option maxRecDepth 100000
def RJ9 : String := "jdk/internal/util/Preconditions"
abbrev cJ9_checkIndex : ByteArray := prog_50_method_11_code
def yJ9_checkIndex : MethodName := ⟨RJ9, "checkIndex", "(IILjava/util/function/BiFunction;)I"⟩
def dkwJ9_checkIndex_0 : List UInt8 := [26, 155, 0, 8, 26, 27, 161, 0, 10, 44, 26, 27, 184, 0, 95, 191, 26, 172]
abbrev dktJ9_checkIndex_0 : List UInt8 := dkwJ9_checkIndex_0 ++ []
theorem dksJ9_checkIndex_0 : cJ9_checkIndex.data.toList.drop 0 = dktJ9_checkIndex_0 := by decide +kernel
theorem dJ9_checkIndex_0 : decode cJ9_checkIndex 0 = .ok (.iload_n 0, 1) := dk_26 (dk_at dksJ9_checkIndex_0 0 rfl rfl)
theorem dJ9_checkIndex_1 : decode cJ9_checkIndex 1 = .ok (.ifCond .lt 8, 3) := dk_155 0 8 (dk_at dksJ9_checkIndex_0 1 rfl rfl)
theorem dJ9_checkIndex_4 : decode cJ9_checkIndex 4 = .ok (.iload_n 0, 1) := dk_26 (dk_at dksJ9_checkIndex_0 4 rfl rfl)
theorem dJ9_checkIndex_5 : decode cJ9_checkIndex 5 = .ok (.iload_n 1, 1) := dk_27 (dk_at dksJ9_checkIndex_0 5 rfl rfl)
theorem dJ9_checkIndex_6 : decode cJ9_checkIndex 6 = .ok (.if_icmp .lt 10, 3) := dk_161 0 10 (dk_at dksJ9_checkIndex_0 6 rfl rfl)
theorem dJ9_checkIndex_9 : decode cJ9_checkIndex 9 = .ok (.aload_n 2, 1) := dk_44 (dk_at dksJ9_checkIndex_0 9 rfl rfl)
theorem dJ9_checkIndex_10 : decode cJ9_checkIndex 10 = .ok (.iload_n 0, 1) := dk_26 (dk_at dksJ9_checkIndex_0 10 rfl rfl)
theorem dJ9_checkIndex_11 : decode cJ9_checkIndex 11 = .ok (.iload_n 1, 1) := dk_27 (dk_at dksJ9_checkIndex_0 11 rfl rfl)
theorem dJ9_checkIndex_12 : decode cJ9_checkIndex 12 = .ok (.invokestatic 95, 3) := dk_184 0 95 (dk_at dksJ9_checkIndex_0 12 rfl rfl)
theorem dJ9_checkIndex_15 : decode cJ9_checkIndex 15 = .ok (.athrow, 1) := dk_191 (dk_at dksJ9_checkIndex_0 15 rfl rfl)
theorem dJ9_checkIndex_16 : decode cJ9_checkIndex 16 = .ok (.iload_n 0, 1) := dk_26 (dk_at dksJ9_checkIndex_0 16 rfl rfl)
theorem dJ9_checkIndex_17 : decode cJ9_checkIndex 17 = .ok (.ireturn, 1) := dk_172 (dk_at dksJ9_checkIndex_0 17 rfl rfl)
theorem q92 : (Jvm.Cond.initialized "jdk/internal/util/Preconditions") ∈ lw_all := lw_g (lw_at lw_m1 17 rfl) rfl
theorem q561 : (Jvm.Cond.static ({ cls := "jdk/internal/util/Preconditions", name := "checkIndex", desc := "(IILjava/util/function/BiFunction;)I" } : Jvm.MethodName)) ∈ lw_all := lw_g (lw_at lw_m3 6 rfl) rfl
theorem q562 : (Jvm.Cond.code ({ cls := "jdk/internal/util/Preconditions", name := "checkIndex", desc := "(IILjava/util/function/BiFunction;)I" } : Jvm.MethodName) prog_50_method_11_code (3 : Nat) (Option.some Jvm.ClassFile.FieldType.int)) ∈ lw_all := lw_g (lw_at lw_m3 7 rfl) rfl
/-! java/lang/Object -/
set_option maxRecDepth 100000
def RJ10 : String := "java/lang/Object"
abbrev cJ10_init : ByteArray := object_method_1_code
def yJ10_init : MethodName := ⟨RJ10, "<init>", "()V"⟩
theorem dJ10_init_0 : decode cJ10_init 0 = .ok (.return_, 1) := by decide +kernel
abbrev cJ10_equals : ByteArray := object_method_4_code
def yJ10_equals : MethodName := ⟨RJ10, "equals", "(Ljava/lang/Object;)Z"⟩
def dkwJ10_equals_0 : List UInt8 := [42, 43, 166, 0, 7, 4, 167, 0, 4, 3, 172]
abbrev dktJ10_equals_0 : List UInt8 := dkwJ10_equals_0 ++ []
theorem dksJ10_equals_0 : cJ10_equals.data.toList.drop 0 = dktJ10_equals_0 := by decide +kernel
theorem dJ10_equals_0 : decode cJ10_equals 0 = .ok (.aload_n 0, 1) := dk_42 (dk_at dksJ10_equals_0 0 rfl rfl)
theorem dJ10_equals_1 : decode cJ10_equals 1 = .ok (.aload_n 1, 1) := dk_43 (dk_at dksJ10_equals_0 1 rfl rfl)
theorem dJ10_equals_2 : decode cJ10_equals 2 = .ok (.if_acmp .ne 7, 3) := dk_166 0 7 (dk_at dksJ10_equals_0 2 rfl rfl)
theorem dJ10_equals_5 : decode cJ10_equals 5 = .ok (.iconst 1, 1) := dk_4 (dk_at dksJ10_equals_0 5 rfl rfl)
theorem dJ10_equals_6 : decode cJ10_equals 6 = .ok (.goto 4, 3) := dk_167 0 4 (dk_at dksJ10_equals_0 6 rfl rfl)
theorem dJ10_equals_9 : decode cJ10_equals 9 = .ok (.iconst 0, 1) := dk_3 (dk_at dksJ10_equals_0 9 rfl rfl)
theorem dJ10_equals_10 : decode cJ10_equals 10 = .ok (.ireturn, 1) := dk_172 (dk_at dksJ10_equals_0 10 rfl rfl)
theorem q123 : (Jvm.Cond.instanceMethod ({ cls := "java/lang/Object", name := "<init>", desc := "()V" } : Jvm.MethodName)) ∈ lw_all := lw_g (lw_at lw_m1 48 rfl) rfl
theorem q124 : (Jvm.Cond.code ({ cls := "java/lang/Object", name := "<init>", desc := "()V" } : Jvm.MethodName) object_method_1_code (1 : Nat) (Option.none : Option Jvm.ClassFile.FieldType)) ∈ lw_all := lw_g (lw_at lw_m1 49 rfl) rfl
theorem q498 : (Jvm.Cond.instanceMethod ({ cls := "java/lang/Object", name := "getClass", desc := "()Ljava/lang/Class;" } : Jvm.MethodName)) ∈ lw_all := lw_g (lw_at lw_m2 183 rfl) rfl
theorem q499 : (Jvm.Cond.sameMethod "java/lang/Object" "java/lang/Object" "getClass" "()Ljava/lang/Class;") ∈ lw_all := lw_g (lw_at lw_m2 184 rfl) rfl
theorem q530 : (Jvm.Cond.native ({ cls := "java/lang/Object", name := "getClass", desc := "()Ljava/lang/Class;" } : Jvm.MethodName)) ∈ lw_all := lw_g (lw_at lw_m2 215 rfl) rfl
theorem q579 : (Jvm.Cond.declares ({ cls := "java/lang/Object", name := "equals", desc := "(Ljava/lang/Object;)Z" } : Jvm.MethodName)) ∈ lw_tbl := lw_at lw_m3 24 rfl
theorem q581 : (Jvm.Cond.instanceMethod ({ cls := "java/lang/Object", name := "equals", desc := "(Ljava/lang/Object;)Z" } : Jvm.MethodName)) ∈ lw_all := lw_g (lw_at lw_m3 26 rfl) rfl
theorem q582 : (Jvm.Cond.sameMethod "java/lang/Object" "java/lang/Object" "equals" "(Ljava/lang/Object;)Z") ∈ lw_all := lw_g (lw_at lw_m3 27 rfl) rfl
theorem q612 : (Jvm.Cond.code ({ cls := "java/lang/Object", name := "equals", desc := "(Ljava/lang/Object;)Z" } : Jvm.MethodName) object_method_4_code (2 : Nat) (Option.some Jvm.ClassFile.FieldType.boolean)) ∈ lw_all := lw_g (lw_at lw_m3 57 rfl) rfl
theorem q2102 : (Jvm.Cond.declares ({ cls := "java/lang/Object", name := "getClass", desc := "()Ljava/lang/Class;" } : Jvm.MethodName)) ∈ lw_tbl := lw_at lw_m9 107 rfl
/-! RoleLoom$Thrown -/
set_option maxRecDepth 100000
def RX1 : String := "RoleLoom$Thrown"
def TX1 : u_T := fun k => match k with
  | 0 => ("java/lang/Throwable", "cause", "Ljava/lang/Throwable;", false)
  | 1 => ("java/lang/Throwable", "stackTrace", "[Ljava/lang/StackTraceElement;", false)
  | 2 => ("java/lang/Throwable", "suppressedExceptions", "Ljava/util/List;", false)
  | 3 => ("java/lang/Throwable", "detailMessage", "Ljava/lang/String;", false)
  | 4 => ("java/lang/Throwable", "backtrace", "Ljava/lang/Object;", false)
  | 5 => ("java/lang/Throwable", "depth", "I", false)
  | 6 => ("RoleLoom$Thrown", "number", "I", false)
  | 7 => ("RoleLoom$Thrown", "value", "J", false)
  | 8 => ("RoleLoom$Thrown", "part", "LRoleLoom$Part;", false)
  | _ => ("RoleLoom$Thrown", "place", "I", false)
def tyX1 : Nat → FieldType := fun k => match k with
  | 0 => .object "java/lang/Throwable"
  | 1 => .array (.object "java/lang/StackTraceElement")
  | 2 => .object "java/util/List"
  | 3 => .object "java/lang/String"
  | 4 => .object "java/lang/Object"
  | 5 => .int
  | 6 => .int
  | 7 => .long
  | 8 => .object "RoleLoom$Part"
  | _ => .int
abbrev wsX10 : List Cond := u_ws RX1 TX1 10
theorem nmX1 : ∀ a, a < 10 → ∀ b, b < 10 → a ≠ b → (TX1 a).2.1 ≠ (TX1 b).2.1 := by decide +kernel
theorem tyX1_ok : ∀ k, k < 10 → parseFieldDescriptor (TX1 k).2.2.1 = some (tyX1 k) := by decide +kernel
abbrev cX1_init : ByteArray := prog_29_method_1_code
def yX1_init : MethodName := ⟨RX1, "<init>", "()V"⟩
theorem dX1_init_0 : decode cX1_init 0 = .ok (.aload_n 0, 1) := by decide +kernel
theorem dX1_init_1 : decode cX1_init 1 = .ok (.invokespecial 1, 3) := by decide +kernel
theorem dX1_init_4 : decode cX1_init 4 = .ok (.return_, 1) := by decide +kernel
theorem q79 : (Jvm.Cond.initialized "RoleLoom$Thrown") ∈ lw_all := lw_g (lw_at lw_m1 4 rfl) rfl
theorem q126 : (Jvm.Cond.instantiable "RoleLoom$Thrown" (10 : Nat)) ∈ lw_all := lw_g (lw_at lw_m1 51 rfl) rfl
theorem q127 : (Jvm.Cond.castable "RoleLoom$Thrown" "RoleLoom$Thrown") ∈ lw_tbl := lw_at lw_m1 52 rfl
theorem q132 : (Jvm.Cond.selects "RoleLoom$Thrown" ({ cls := "java/lang/Throwable", name := "fillInStackTrace", desc := "(I)Ljava/lang/Throwable;" } : Jvm.MethodName) ({ cls := "java/lang/Throwable", name := "fillInStackTrace", desc := "(I)Ljava/lang/Throwable;" } : Jvm.MethodName)) ∈ lw_all := lw_g (lw_at lw_m1 57 rfl) rfl
theorem q133 : (Jvm.Cond.selects "RoleLoom$Thrown" ({ cls := "java/lang/Throwable", name := "fillInStackTrace", desc := "()Ljava/lang/Throwable;" } : Jvm.MethodName) ({ cls := "java/lang/Throwable", name := "fillInStackTrace", desc := "()Ljava/lang/Throwable;" } : Jvm.MethodName)) ∈ lw_all := lw_g (lw_at lw_m1 58 rfl) rfl
theorem q134 : (Jvm.Cond.lays "RoleLoom$Thrown" "java/lang/Throwable" "cause" "Ljava/lang/Throwable;") ∈ lw_all := lw_g (lw_at lw_m1 59 rfl) rfl
theorem q136 : (Jvm.Cond.lays "RoleLoom$Thrown" "java/lang/Throwable" "stackTrace" "[Ljava/lang/StackTraceElement;") ∈ lw_all := lw_g (lw_at lw_m1 61 rfl) rfl
theorem q138 : (Jvm.Cond.lays "RoleLoom$Thrown" "java/lang/Throwable" "suppressedExceptions" "Ljava/util/List;") ∈ lw_all := lw_g (lw_at lw_m1 63 rfl) rfl
theorem q140 : (Jvm.Cond.lays "RoleLoom$Thrown" "java/lang/Throwable" "detailMessage" "Ljava/lang/String;") ∈ lw_all := lw_g (lw_at lw_m1 65 rfl) rfl
theorem q142 : (Jvm.Cond.lays "RoleLoom$Thrown" "java/lang/Throwable" "backtrace" "Ljava/lang/Object;") ∈ lw_all := lw_g (lw_at lw_m1 67 rfl) rfl
theorem q164 : (Jvm.Cond.instanceMethod ({ cls := "RoleLoom$Thrown", name := "<init>", desc := "()V" } : Jvm.MethodName)) ∈ lw_all := lw_g (lw_at lw_m1 89 rfl) rfl
theorem q165 : (Jvm.Cond.code ({ cls := "RoleLoom$Thrown", name := "<init>", desc := "()V" } : Jvm.MethodName) prog_29_method_1_code (1 : Nat) (Option.none : Option Jvm.ClassFile.FieldType)) ∈ lw_all := lw_g (lw_at lw_m1 90 rfl) rfl
theorem q166 : (Jvm.Cond.methodLink "RoleLoom$Thrown" (1 : Nat) ({ cls := "java/lang/Exception", name := "<init>", desc := "()V" } : Jvm.MethodName)) ∈ lw_all := lw_g (lw_at lw_m1 91 rfl) rfl
theorem q178 : (Jvm.Cond.lays "RoleLoom$Thrown" "RoleLoom$Thrown" "number" "I") ∈ lw_all := lw_g (lw_at lw_m1 103 rfl) rfl
theorem q179 : (Jvm.Cond.soleField "RoleLoom$Thrown" "number") ∈ lw_all := lw_g (lw_at lw_m1 104 rfl) rfl
theorem q180 : (Jvm.Cond.lays "RoleLoom$Thrown" "RoleLoom$Thrown" "value" "J") ∈ lw_all := lw_g (lw_at lw_m1 105 rfl) rfl
theorem q181 : (Jvm.Cond.soleField "RoleLoom$Thrown" "value") ∈ lw_all := lw_g (lw_at lw_m1 106 rfl) rfl
theorem q182 : (Jvm.Cond.lays "RoleLoom$Thrown" "RoleLoom$Thrown" "part" "LRoleLoom$Part;") ∈ lw_all := lw_g (lw_at lw_m1 107 rfl) rfl
theorem q183 : (Jvm.Cond.soleField "RoleLoom$Thrown" "part") ∈ lw_all := lw_g (lw_at lw_m1 108 rfl) rfl
theorem q184 : (Jvm.Cond.lays "RoleLoom$Thrown" "RoleLoom$Thrown" "place" "I") ∈ lw_all := lw_g (lw_at lw_m1 109 rfl) rfl
theorem q185 : (Jvm.Cond.soleField "RoleLoom$Thrown" "place") ∈ lw_all := lw_g (lw_at lw_m1 110 rfl) rfl
theorem q190 : (Jvm.Cond.lays "RoleLoom$Thrown" "java/lang/Throwable" "depth" "I") ∈ lw_all := lw_g (lw_at lw_m1 115 rfl) rfl
theorem q193 : (Jvm.Cond.superclass "RoleLoom$Thrown" "java/lang/Exception") ∈ lw_all := lw_g (lw_at lw_m1 118 rfl) rfl
theorem q526 : (Jvm.Cond.selects "RoleLoom$Thrown" ({ cls := "java/lang/Object", name := "getClass", desc := "()Ljava/lang/Class;" } : Jvm.MethodName) ({ cls := "java/lang/Object", name := "getClass", desc := "()Ljava/lang/Class;" } : Jvm.MethodName)) ∈ lw_all := lw_g (lw_at lw_m2 211 rfl) rfl
theorem q609 : (Jvm.Cond.selects "RoleLoom$Thrown" ({ cls := "java/lang/Object", name := "equals", desc := "(Ljava/lang/Object;)Z" } : Jvm.MethodName) ({ cls := "java/lang/Object", name := "equals", desc := "(Ljava/lang/Object;)Z" } : Jvm.MethodName)) ∈ lw_all := lw_g (lw_at lw_m3 54 rfl) rfl
theorem q2073 : (Jvm.Cond.castable "RoleLoom$Thrown" "java/lang/Object") ∈ lw_tbl := lw_at lw_m9 78 rfl
theorem in_X1 : ∀ w ∈ wsX10, w ∈ lw_all := lw_in wsX10 [134, 136, 138, 140, 142, 190, 178, 180, 182, 184] (by decide +kernel) (by decide +kernel)
/-! RoleLoom$Stop -/
set_option maxRecDepth 100000
def RX2 : String := "RoleLoom$Stop"
def TX2 : u_T := fun k => match k with
  | 0 => ("java/lang/Throwable", "cause", "Ljava/lang/Throwable;", false)
  | 1 => ("java/lang/Throwable", "stackTrace", "[Ljava/lang/StackTraceElement;", false)
  | 2 => ("java/lang/Throwable", "suppressedExceptions", "Ljava/util/List;", false)
  | 3 => ("java/lang/Throwable", "detailMessage", "Ljava/lang/String;", false)
  | 4 => ("java/lang/Throwable", "backtrace", "Ljava/lang/Object;", false)
  | 5 => ("java/lang/Throwable", "depth", "I", false)
  | _ => ("RoleLoom$Stop", "outcome", "I", false)
def tyX2 : Nat → FieldType := fun k => match k with
  | 0 => .object "java/lang/Throwable"
  | 1 => .array (.object "java/lang/StackTraceElement")
  | 2 => .object "java/util/List"
  | 3 => .object "java/lang/String"
  | 4 => .object "java/lang/Object"
  | 5 => .int
  | _ => .int
abbrev wsX20 : List Cond := u_ws RX2 TX2 7
theorem nmX2 : ∀ a, a < 7 → ∀ b, b < 7 → a ≠ b → (TX2 a).2.1 ≠ (TX2 b).2.1 := by decide +kernel
theorem tyX2_ok : ∀ k, k < 7 → parseFieldDescriptor (TX2 k).2.2.1 = some (tyX2 k) := by decide +kernel
abbrev cX2_init : ByteArray := prog_26_method_1_code
def yX2_init : MethodName := ⟨RX2, "<init>", "()V"⟩
theorem dX2_init_0 : decode cX2_init 0 = .ok (.aload_n 0, 1) := by decide +kernel
theorem dX2_init_1 : decode cX2_init 1 = .ok (.invokespecial 1, 3) := by decide +kernel
theorem dX2_init_4 : decode cX2_init 4 = .ok (.return_, 1) := by decide +kernel
theorem q80 : (Jvm.Cond.initialized "RoleLoom$Stop") ∈ lw_all := lw_g (lw_at lw_m1 5 rfl) rfl
theorem q156 : (Jvm.Cond.selects "RoleLoom$Stop" ({ cls := "java/lang/Throwable", name := "fillInStackTrace", desc := "()Ljava/lang/Throwable;" } : Jvm.MethodName) ({ cls := "java/lang/Throwable", name := "fillInStackTrace", desc := "()Ljava/lang/Throwable;" } : Jvm.MethodName)) ∈ lw_all := lw_g (lw_at lw_m1 81 rfl) rfl
theorem q195 : (Jvm.Cond.instantiable "RoleLoom$Stop" (7 : Nat)) ∈ lw_all := lw_g (lw_at lw_m1 120 rfl) rfl
theorem q196 : (Jvm.Cond.castable "RoleLoom$Stop" "RoleLoom$Stop") ∈ lw_tbl := lw_at lw_m1 121 rfl
theorem q197 : (Jvm.Cond.selects "RoleLoom$Stop" ({ cls := "java/lang/Throwable", name := "fillInStackTrace", desc := "(I)Ljava/lang/Throwable;" } : Jvm.MethodName) ({ cls := "java/lang/Throwable", name := "fillInStackTrace", desc := "(I)Ljava/lang/Throwable;" } : Jvm.MethodName)) ∈ lw_all := lw_g (lw_at lw_m1 122 rfl) rfl
theorem q198 : (Jvm.Cond.lays "RoleLoom$Stop" "java/lang/Throwable" "cause" "Ljava/lang/Throwable;") ∈ lw_all := lw_g (lw_at lw_m1 123 rfl) rfl
theorem q199 : (Jvm.Cond.lays "RoleLoom$Stop" "java/lang/Throwable" "stackTrace" "[Ljava/lang/StackTraceElement;") ∈ lw_all := lw_g (lw_at lw_m1 124 rfl) rfl
theorem q200 : (Jvm.Cond.lays "RoleLoom$Stop" "java/lang/Throwable" "suppressedExceptions" "Ljava/util/List;") ∈ lw_all := lw_g (lw_at lw_m1 125 rfl) rfl
theorem q201 : (Jvm.Cond.lays "RoleLoom$Stop" "java/lang/Throwable" "detailMessage" "Ljava/lang/String;") ∈ lw_all := lw_g (lw_at lw_m1 126 rfl) rfl
theorem q202 : (Jvm.Cond.lays "RoleLoom$Stop" "java/lang/Throwable" "backtrace" "Ljava/lang/Object;") ∈ lw_all := lw_g (lw_at lw_m1 127 rfl) rfl
theorem q204 : (Jvm.Cond.instanceMethod ({ cls := "RoleLoom$Stop", name := "<init>", desc := "()V" } : Jvm.MethodName)) ∈ lw_all := lw_g (lw_at lw_m1 129 rfl) rfl
theorem q205 : (Jvm.Cond.code ({ cls := "RoleLoom$Stop", name := "<init>", desc := "()V" } : Jvm.MethodName) prog_26_method_1_code (1 : Nat) (Option.none : Option Jvm.ClassFile.FieldType)) ∈ lw_all := lw_g (lw_at lw_m1 130 rfl) rfl
theorem q206 : (Jvm.Cond.methodLink "RoleLoom$Stop" (1 : Nat) ({ cls := "java/lang/Exception", name := "<init>", desc := "()V" } : Jvm.MethodName)) ∈ lw_all := lw_g (lw_at lw_m1 131 rfl) rfl
theorem q208 : (Jvm.Cond.lays "RoleLoom$Stop" "RoleLoom$Stop" "outcome" "I") ∈ lw_all := lw_g (lw_at lw_m1 133 rfl) rfl
theorem q209 : (Jvm.Cond.soleField "RoleLoom$Stop" "outcome") ∈ lw_all := lw_g (lw_at lw_m1 134 rfl) rfl
theorem q210 : (Jvm.Cond.lays "RoleLoom$Stop" "java/lang/Throwable" "depth" "I") ∈ lw_all := lw_g (lw_at lw_m1 135 rfl) rfl
theorem q211 : (Jvm.Cond.superclass "RoleLoom$Stop" "java/lang/Exception") ∈ lw_all := lw_g (lw_at lw_m1 136 rfl) rfl
theorem q523 : (Jvm.Cond.selects "RoleLoom$Stop" ({ cls := "java/lang/Object", name := "getClass", desc := "()Ljava/lang/Class;" } : Jvm.MethodName) ({ cls := "java/lang/Object", name := "getClass", desc := "()Ljava/lang/Class;" } : Jvm.MethodName)) ∈ lw_all := lw_g (lw_at lw_m2 208 rfl) rfl
theorem q606 : (Jvm.Cond.selects "RoleLoom$Stop" ({ cls := "java/lang/Object", name := "equals", desc := "(Ljava/lang/Object;)Z" } : Jvm.MethodName) ({ cls := "java/lang/Object", name := "equals", desc := "(Ljava/lang/Object;)Z" } : Jvm.MethodName)) ∈ lw_all := lw_g (lw_at lw_m3 51 rfl) rfl
theorem q2074 : (Jvm.Cond.castable "RoleLoom$Stop" "java/lang/Object") ∈ lw_tbl := lw_at lw_m9 79 rfl
theorem in_X2 : ∀ w ∈ wsX20, w ∈ lw_all := lw_in wsX20 [198, 199, 200, 201, 202, 210, 208] (by decide +kernel) (by decide +kernel)
/-! RoleLoom$Frame -/
set_option maxRecDepth 100000
def RX3 : String := "RoleLoom$Frame"
def TX3 : u_T := fun k => match k with
  | 0 => ("RoleLoom$Frame", "thing", "LRoleLoom$Thing;", false)
  | 1 => ("RoleLoom$Frame", "state", "LRoleLoom$State;", false)
  | 2 => ("RoleLoom$Frame", "chain", "Ljava/util/ArrayList;", false)
  | 3 => ("RoleLoom$Frame", "link", "I", false)
  | 4 => ("RoleLoom$Frame", "body", "LRoleLoom$Body;", false)
  | 5 => ("RoleLoom$Frame", "argument", "J", false)
  | 6 => ("RoleLoom$Frame", "at", "I", false)
  | _ => ("RoleLoom$Frame", "deep", "I", false)
def tyX3 : Nat → FieldType := fun k => match k with
  | 0 => .object "RoleLoom$Thing"
  | 1 => .object "RoleLoom$State"
  | 2 => .object "java/util/ArrayList"
  | 3 => .int
  | 4 => .object "RoleLoom$Body"
  | 5 => .long
  | 6 => .int
  | _ => .int
abbrev wsX30 : List Cond := u_ws RX3 TX3 8
theorem nmX3 : ∀ a, a < 8 → ∀ b, b < 8 → a ≠ b → (TX3 a).2.1 ≠ (TX3 b).2.1 := by decide +kernel
theorem tyX3_ok : ∀ k, k < 8 → parseFieldDescriptor (TX3 k).2.2.1 = some (tyX3 k) := by decide +kernel
abbrev cX3_init : ByteArray := prog_12_method_1_code
def yX3_init : MethodName := ⟨RX3, "<init>", "()V"⟩
theorem dX3_init_0 : decode cX3_init 0 = .ok (.aload_n 0, 1) := by decide +kernel
theorem dX3_init_1 : decode cX3_init 1 = .ok (.invokespecial 1, 3) := by decide +kernel
theorem dX3_init_4 : decode cX3_init 4 = .ok (.return_, 1) := by decide +kernel
theorem q84 : (Jvm.Cond.initialized "RoleLoom$Frame") ∈ lw_all := lw_g (lw_at lw_m1 9 rfl) rfl
theorem q242 : (Jvm.Cond.instantiable "RoleLoom$Frame" (8 : Nat)) ∈ lw_all := lw_g (lw_at lw_m1 167 rfl) rfl
theorem q244 : (Jvm.Cond.instanceMethod ({ cls := "RoleLoom$Frame", name := "<init>", desc := "()V" } : Jvm.MethodName)) ∈ lw_all := lw_g (lw_at lw_m1 169 rfl) rfl
theorem q245 : (Jvm.Cond.code ({ cls := "RoleLoom$Frame", name := "<init>", desc := "()V" } : Jvm.MethodName) prog_12_method_1_code (1 : Nat) (Option.none : Option Jvm.ClassFile.FieldType)) ∈ lw_all := lw_g (lw_at lw_m1 170 rfl) rfl
theorem q246 : (Jvm.Cond.methodLink "RoleLoom$Frame" (1 : Nat) ({ cls := "java/lang/Object", name := "<init>", desc := "()V" } : Jvm.MethodName)) ∈ lw_all := lw_g (lw_at lw_m1 171 rfl) rfl
theorem q272 : (Jvm.Cond.lays "RoleLoom$Frame" "RoleLoom$Frame" "thing" "LRoleLoom$Thing;") ∈ lw_all := lw_g (lw_at lw_m1 197 rfl) rfl
theorem q273 : (Jvm.Cond.soleField "RoleLoom$Frame" "thing") ∈ lw_all := lw_g (lw_at lw_m1 198 rfl) rfl
theorem q274 : (Jvm.Cond.lays "RoleLoom$Frame" "RoleLoom$Frame" "state" "LRoleLoom$State;") ∈ lw_all := lw_g (lw_at lw_m1 199 rfl) rfl
theorem q275 : (Jvm.Cond.soleField "RoleLoom$Frame" "state") ∈ lw_all := lw_g (lw_at lw_m1 200 rfl) rfl
theorem q276 : (Jvm.Cond.lays "RoleLoom$Frame" "RoleLoom$Frame" "chain" "Ljava/util/ArrayList;") ∈ lw_all := lw_g (lw_at lw_m1 201 rfl) rfl
theorem q277 : (Jvm.Cond.soleField "RoleLoom$Frame" "chain") ∈ lw_all := lw_g (lw_at lw_m1 202 rfl) rfl
theorem q278 : (Jvm.Cond.lays "RoleLoom$Frame" "RoleLoom$Frame" "link" "I") ∈ lw_all := lw_g (lw_at lw_m1 203 rfl) rfl
theorem q279 : (Jvm.Cond.soleField "RoleLoom$Frame" "link") ∈ lw_all := lw_g (lw_at lw_m1 204 rfl) rfl
theorem q280 : (Jvm.Cond.lays "RoleLoom$Frame" "RoleLoom$Frame" "body" "LRoleLoom$Body;") ∈ lw_all := lw_g (lw_at lw_m1 205 rfl) rfl
theorem q281 : (Jvm.Cond.soleField "RoleLoom$Frame" "body") ∈ lw_all := lw_g (lw_at lw_m1 206 rfl) rfl
theorem q282 : (Jvm.Cond.lays "RoleLoom$Frame" "RoleLoom$Frame" "argument" "J") ∈ lw_all := lw_g (lw_at lw_m1 207 rfl) rfl
theorem q283 : (Jvm.Cond.soleField "RoleLoom$Frame" "argument") ∈ lw_all := lw_g (lw_at lw_m1 208 rfl) rfl
theorem q284 : (Jvm.Cond.lays "RoleLoom$Frame" "RoleLoom$Frame" "at" "I") ∈ lw_all := lw_g (lw_at lw_m1 209 rfl) rfl
theorem q285 : (Jvm.Cond.soleField "RoleLoom$Frame" "at") ∈ lw_all := lw_g (lw_at lw_m1 210 rfl) rfl
theorem q286 : (Jvm.Cond.lays "RoleLoom$Frame" "RoleLoom$Frame" "deep" "I") ∈ lw_all := lw_g (lw_at lw_m1 211 rfl) rfl
theorem q287 : (Jvm.Cond.soleField "RoleLoom$Frame" "deep") ∈ lw_all := lw_g (lw_at lw_m1 212 rfl) rfl
theorem q288 : (Jvm.Cond.superclass "RoleLoom$Frame" "java/lang/Object") ∈ lw_all := lw_g (lw_at lw_m1 213 rfl) rfl
theorem q509 : (Jvm.Cond.selects "RoleLoom$Frame" ({ cls := "java/lang/Object", name := "getClass", desc := "()Ljava/lang/Class;" } : Jvm.MethodName) ({ cls := "java/lang/Object", name := "getClass", desc := "()Ljava/lang/Class;" } : Jvm.MethodName)) ∈ lw_all := lw_g (lw_at lw_m2 194 rfl) rfl
theorem q592 : (Jvm.Cond.selects "RoleLoom$Frame" ({ cls := "java/lang/Object", name := "equals", desc := "(Ljava/lang/Object;)Z" } : Jvm.MethodName) ({ cls := "java/lang/Object", name := "equals", desc := "(Ljava/lang/Object;)Z" } : Jvm.MethodName)) ∈ lw_all := lw_g (lw_at lw_m3 37 rfl) rfl
theorem q2069 : (Jvm.Cond.castable "RoleLoom$Frame" "java/lang/Object") ∈ lw_tbl := lw_at lw_m9 74 rfl
theorem in_X3 : ∀ w ∈ wsX30, w ∈ lw_all := lw_in wsX30 [272, 274, 276, 278, 280, 282, 284, 286] (by decide +kernel) (by decide +kernel)
/-! RoleLoom$Part -/
set_option maxRecDepth 100000
def RX5 : String := "RoleLoom$Part"
def TX5 : u_T := fun k => match k with
  | 0 => ("RoleLoom$Part", "number", "I", true)
  | 1 => ("RoleLoom$Part", "cells", "I", true)
  | 2 => ("RoleLoom$Part", "rows", "I", true)
  | 3 => ("RoleLoom$Part", "holders", "I", true)
  | 4 => ("RoleLoom$Part", "extended", "Ljava/util/ArrayList;", true)
  | 5 => ("RoleLoom$Part", "gives", "[LRoleLoom$Body;", true)
  | 6 => ("RoleLoom$Part", "guards", "[LRoleLoom$Body;", true)
  | 7 => ("RoleLoom$Part", "start", "LRoleLoom$Body;", false)
  | _ => ("RoleLoom$Part", "wishes", "[Z", true)
def tyX5 : Nat → FieldType := fun k => match k with
  | 0 => .int
  | 1 => .int
  | 2 => .int
  | 3 => .int
  | 4 => .object "java/util/ArrayList"
  | 5 => .array (.object "RoleLoom$Body")
  | 6 => .array (.object "RoleLoom$Body")
  | 7 => .object "RoleLoom$Body"
  | _ => .array .boolean
abbrev wsX50 : List Cond := u_ws RX5 TX5 9
theorem nmX5 : ∀ a, a < 9 → ∀ b, b < 9 → a ≠ b → (TX5 a).2.1 ≠ (TX5 b).2.1 := by decide +kernel
theorem tyX5_ok : ∀ k, k < 9 → parseFieldDescriptor (TX5 k).2.2.1 = some (tyX5 k) := by decide +kernel
abbrev cX5_init : ByteArray := prog_21_method_1_code
def yX5_init : MethodName := ⟨RX5, "<init>", "(IIII)V"⟩
def dkwX5_init_2 : List UInt8 := [181, 0, 35, 42, 29, 181, 0, 38, 42, 21, 4, 181, 0, 41, 177]
abbrev dktX5_init_2 : List UInt8 := dkwX5_init_2 ++ []
def dkwX5_init_1 : List UInt8 := [42, 16, 12, 189, 0, 18, 181, 0, 24, 42, 16, 12, 188, 4, 181, 0, 27, 42, 27, 181, 0, 31, 42, 28]
abbrev dktX5_init_1 : List UInt8 := dkwX5_init_1 ++ dktX5_init_2
def dkwX5_init_0 : List UInt8 := [42, 183, 0, 3, 42, 187, 0, 9, 89, 183, 0, 11, 181, 0, 12, 42, 16, 12, 189, 0, 18, 181, 0, 20]
abbrev dktX5_init_0 : List UInt8 := dkwX5_init_0 ++ dktX5_init_1
theorem dksX5_init_0 : cX5_init.data.toList.drop 0 = dktX5_init_0 := by decide +kernel
theorem dksX5_init_1 : cX5_init.data.toList.drop 24 = dktX5_init_1 := dk_seg dksX5_init_0 24 rfl rfl
theorem dksX5_init_2 : cX5_init.data.toList.drop 48 = dktX5_init_2 := dk_seg dksX5_init_1 24 rfl rfl
theorem dX5_init_0 : decode cX5_init 0 = .ok (.aload_n 0, 1) := dk_42 (dk_at dksX5_init_0 0 rfl rfl)
theorem dX5_init_1 : decode cX5_init 1 = .ok (.invokespecial 3, 3) := dk_183 0 3 (dk_at dksX5_init_0 1 rfl rfl)
theorem dX5_init_4 : decode cX5_init 4 = .ok (.aload_n 0, 1) := dk_42 (dk_at dksX5_init_0 4 rfl rfl)
theorem dX5_init_5 : decode cX5_init 5 = .ok (.new 9, 3) := dk_187 0 9 (dk_at dksX5_init_0 5 rfl rfl)
theorem dX5_init_8 : decode cX5_init 8 = .ok (.dup, 1) := dk_89 (dk_at dksX5_init_0 8 rfl rfl)
theorem dX5_init_9 : decode cX5_init 9 = .ok (.invokespecial 11, 3) := dk_183 0 11 (dk_at dksX5_init_0 9 rfl rfl)
theorem dX5_init_12 : decode cX5_init 12 = .ok (.putfield 12, 3) := dk_181 0 12 (dk_at dksX5_init_0 12 rfl rfl)
theorem dX5_init_15 : decode cX5_init 15 = .ok (.aload_n 0, 1) := dk_42 (dk_at dksX5_init_0 15 rfl rfl)
theorem dX5_init_16 : decode cX5_init 16 = .ok (.bipush 12, 2) := dk_16 12 (dk_at dksX5_init_0 16 rfl rfl)
theorem dX5_init_18 : decode cX5_init 18 = .ok (.anewarray 18, 3) := dk_189 0 18 (dk_at dksX5_init_0 18 rfl rfl)
theorem dX5_init_21 : decode cX5_init 21 = .ok (.putfield 20, 3) := dk_181 0 20 (dk_at dksX5_init_0 21 rfl rfl)
theorem dX5_init_24 : decode cX5_init 24 = .ok (.aload_n 0, 1) := dk_42 (dk_at dksX5_init_1 0 rfl rfl)
theorem dX5_init_25 : decode cX5_init 25 = .ok (.bipush 12, 2) := dk_16 12 (dk_at dksX5_init_1 1 rfl rfl)
theorem dX5_init_27 : decode cX5_init 27 = .ok (.anewarray 18, 3) := dk_189 0 18 (dk_at dksX5_init_1 3 rfl rfl)
theorem dX5_init_30 : decode cX5_init 30 = .ok (.putfield 24, 3) := dk_181 0 24 (dk_at dksX5_init_1 6 rfl rfl)
theorem dX5_init_33 : decode cX5_init 33 = .ok (.aload_n 0, 1) := dk_42 (dk_at dksX5_init_1 9 rfl rfl)
theorem dX5_init_34 : decode cX5_init 34 = .ok (.bipush 12, 2) := dk_16 12 (dk_at dksX5_init_1 10 rfl rfl)
theorem dX5_init_36 : decode cX5_init 36 = .ok (.newarray .boolean, 2) := dk_188_4 (dk_at dksX5_init_1 12 rfl rfl)
theorem dX5_init_38 : decode cX5_init 38 = .ok (.putfield 27, 3) := dk_181 0 27 (dk_at dksX5_init_1 14 rfl rfl)
theorem dX5_init_41 : decode cX5_init 41 = .ok (.aload_n 0, 1) := dk_42 (dk_at dksX5_init_1 17 rfl rfl)
theorem dX5_init_42 : decode cX5_init 42 = .ok (.iload_n 1, 1) := dk_27 (dk_at dksX5_init_1 18 rfl rfl)
theorem dX5_init_43 : decode cX5_init 43 = .ok (.putfield 31, 3) := dk_181 0 31 (dk_at dksX5_init_1 19 rfl rfl)
theorem dX5_init_46 : decode cX5_init 46 = .ok (.aload_n 0, 1) := dk_42 (dk_at dksX5_init_1 22 rfl rfl)
theorem dX5_init_47 : decode cX5_init 47 = .ok (.iload_n 2, 1) := dk_28 (dk_at dksX5_init_1 23 rfl rfl)
theorem dX5_init_48 : decode cX5_init 48 = .ok (.putfield 35, 3) := dk_181 0 35 (dk_at dksX5_init_2 0 rfl rfl)
theorem dX5_init_51 : decode cX5_init 51 = .ok (.aload_n 0, 1) := dk_42 (dk_at dksX5_init_2 3 rfl rfl)
theorem dX5_init_52 : decode cX5_init 52 = .ok (.iload_n 3, 1) := dk_29 (dk_at dksX5_init_2 4 rfl rfl)
theorem dX5_init_53 : decode cX5_init 53 = .ok (.putfield 38, 3) := dk_181 0 38 (dk_at dksX5_init_2 5 rfl rfl)
theorem dX5_init_56 : decode cX5_init 56 = .ok (.aload_n 0, 1) := dk_42 (dk_at dksX5_init_2 8 rfl rfl)
theorem dX5_init_57 : decode cX5_init 57 = .ok (.iload 4, 2) := dk_21 4 (dk_at dksX5_init_2 9 rfl rfl)
theorem dX5_init_59 : decode cX5_init 59 = .ok (.putfield 41, 3) := dk_181 0 41 (dk_at dksX5_init_2 11 rfl rfl)
theorem dX5_init_62 : decode cX5_init 62 = .ok (.return_, 1) := dk_177 (dk_at dksX5_init_2 14 rfl rfl)
theorem q86 : (Jvm.Cond.initialized "RoleLoom$Part") ∈ lw_all := lw_g (lw_at lw_m1 11 rfl) rfl
theorem q417 : (Jvm.Cond.instantiable "RoleLoom$Part" (9 : Nat)) ∈ lw_all := lw_g (lw_at lw_m2 102 rfl) rfl
theorem q419 : (Jvm.Cond.instanceMethod ({ cls := "RoleLoom$Part", name := "<init>", desc := "(IIII)V" } : Jvm.MethodName)) ∈ lw_all := lw_g (lw_at lw_m2 104 rfl) rfl
theorem q420 : (Jvm.Cond.code ({ cls := "RoleLoom$Part", name := "<init>", desc := "(IIII)V" } : Jvm.MethodName) prog_21_method_1_code (5 : Nat) (Option.none : Option Jvm.ClassFile.FieldType)) ∈ lw_all := lw_g (lw_at lw_m2 105 rfl) rfl
theorem q421 : (Jvm.Cond.methodLink "RoleLoom$Part" (3 : Nat) ({ cls := "java/lang/Object", name := "<init>", desc := "()V" } : Jvm.MethodName)) ∈ lw_all := lw_g (lw_at lw_m2 106 rfl) rfl
theorem q422 : (Jvm.Cond.classLink "RoleLoom$Part" (9 : Nat) "java/util/ArrayList") ∈ lw_all := lw_g (lw_at lw_m2 107 rfl) rfl
theorem q423 : (Jvm.Cond.methodLink "RoleLoom$Part" (11 : Nat) ({ cls := "java/util/ArrayList", name := "<init>", desc := "()V" } : Jvm.MethodName)) ∈ lw_all := lw_g (lw_at lw_m2 108 rfl) rfl
theorem q424 : (Jvm.Cond.classLink "RoleLoom$Part" (18 : Nat) "RoleLoom$Body") ∈ lw_all := lw_g (lw_at lw_m2 109 rfl) rfl
theorem q425 : (Jvm.Cond.fieldLink "RoleLoom$Part" (31 : Nat) "RoleLoom$Part" "number" "I") ∈ lw_all := lw_g (lw_at lw_m2 110 rfl) rfl
theorem q428 : (Jvm.Cond.fieldLink "RoleLoom$Part" (35 : Nat) "RoleLoom$Part" "cells" "I") ∈ lw_all := lw_g (lw_at lw_m2 113 rfl) rfl
theorem q433 : (Jvm.Cond.fieldLink "RoleLoom$Part" (38 : Nat) "RoleLoom$Part" "rows" "I") ∈ lw_all := lw_g (lw_at lw_m2 118 rfl) rfl
theorem q436 : (Jvm.Cond.fieldLink "RoleLoom$Part" (41 : Nat) "RoleLoom$Part" "holders" "I") ∈ lw_all := lw_g (lw_at lw_m2 121 rfl) rfl
theorem q440 : (Jvm.Cond.fieldLink "RoleLoom$Part" (12 : Nat) "RoleLoom$Part" "extended" "Ljava/util/ArrayList;") ∈ lw_all := lw_g (lw_at lw_m2 125 rfl) rfl
theorem q442 : (Jvm.Cond.fieldLink "RoleLoom$Part" (20 : Nat) "RoleLoom$Part" "gives" "[LRoleLoom$Body;") ∈ lw_all := lw_g (lw_at lw_m2 127 rfl) rfl
theorem q444 : (Jvm.Cond.fieldLink "RoleLoom$Part" (24 : Nat) "RoleLoom$Part" "guards" "[LRoleLoom$Body;") ∈ lw_all := lw_g (lw_at lw_m2 129 rfl) rfl
theorem q447 : (Jvm.Cond.fieldLink "RoleLoom$Part" (27 : Nat) "RoleLoom$Part" "wishes" "[Z") ∈ lw_all := lw_g (lw_at lw_m2 132 rfl) rfl
theorem q449 : (Jvm.Cond.laysFinal "RoleLoom$Part" "RoleLoom$Part" "number" "I") ∈ lw_all := lw_g (lw_at lw_m2 134 rfl) rfl
theorem q450 : (Jvm.Cond.soleField "RoleLoom$Part" "number") ∈ lw_all := lw_g (lw_at lw_m2 135 rfl) rfl
theorem q451 : (Jvm.Cond.laysFinal "RoleLoom$Part" "RoleLoom$Part" "cells" "I") ∈ lw_all := lw_g (lw_at lw_m2 136 rfl) rfl
theorem q452 : (Jvm.Cond.soleField "RoleLoom$Part" "cells") ∈ lw_all := lw_g (lw_at lw_m2 137 rfl) rfl
theorem q453 : (Jvm.Cond.laysFinal "RoleLoom$Part" "RoleLoom$Part" "rows" "I") ∈ lw_all := lw_g (lw_at lw_m2 138 rfl) rfl
theorem q454 : (Jvm.Cond.soleField "RoleLoom$Part" "rows") ∈ lw_all := lw_g (lw_at lw_m2 139 rfl) rfl
theorem q455 : (Jvm.Cond.laysFinal "RoleLoom$Part" "RoleLoom$Part" "holders" "I") ∈ lw_all := lw_g (lw_at lw_m2 140 rfl) rfl
theorem q456 : (Jvm.Cond.soleField "RoleLoom$Part" "holders") ∈ lw_all := lw_g (lw_at lw_m2 141 rfl) rfl
theorem q457 : (Jvm.Cond.laysFinal "RoleLoom$Part" "RoleLoom$Part" "extended" "Ljava/util/ArrayList;") ∈ lw_all := lw_g (lw_at lw_m2 142 rfl) rfl
theorem q458 : (Jvm.Cond.soleField "RoleLoom$Part" "extended") ∈ lw_all := lw_g (lw_at lw_m2 143 rfl) rfl
theorem q459 : (Jvm.Cond.laysFinal "RoleLoom$Part" "RoleLoom$Part" "gives" "[LRoleLoom$Body;") ∈ lw_all := lw_g (lw_at lw_m2 144 rfl) rfl
theorem q460 : (Jvm.Cond.soleField "RoleLoom$Part" "gives") ∈ lw_all := lw_g (lw_at lw_m2 145 rfl) rfl
theorem q461 : (Jvm.Cond.laysFinal "RoleLoom$Part" "RoleLoom$Part" "guards" "[LRoleLoom$Body;") ∈ lw_all := lw_g (lw_at lw_m2 146 rfl) rfl
theorem q462 : (Jvm.Cond.soleField "RoleLoom$Part" "guards") ∈ lw_all := lw_g (lw_at lw_m2 147 rfl) rfl
theorem q463 : (Jvm.Cond.lays "RoleLoom$Part" "RoleLoom$Part" "start" "LRoleLoom$Body;") ∈ lw_all := lw_g (lw_at lw_m2 148 rfl) rfl
theorem q464 : (Jvm.Cond.soleField "RoleLoom$Part" "start") ∈ lw_all := lw_g (lw_at lw_m2 149 rfl) rfl
theorem q465 : (Jvm.Cond.laysFinal "RoleLoom$Part" "RoleLoom$Part" "wishes" "[Z") ∈ lw_all := lw_g (lw_at lw_m2 150 rfl) rfl
theorem q466 : (Jvm.Cond.soleField "RoleLoom$Part" "wishes") ∈ lw_all := lw_g (lw_at lw_m2 151 rfl) rfl
theorem q467 : (Jvm.Cond.superclass "RoleLoom$Part" "java/lang/Object") ∈ lw_all := lw_g (lw_at lw_m2 152 rfl) rfl
theorem q518 : (Jvm.Cond.selects "RoleLoom$Part" ({ cls := "java/lang/Object", name := "getClass", desc := "()Ljava/lang/Class;" } : Jvm.MethodName) ({ cls := "java/lang/Object", name := "getClass", desc := "()Ljava/lang/Class;" } : Jvm.MethodName)) ∈ lw_all := lw_g (lw_at lw_m2 203 rfl) rfl
theorem q601 : (Jvm.Cond.selects "RoleLoom$Part" ({ cls := "java/lang/Object", name := "equals", desc := "(Ljava/lang/Object;)Z" } : Jvm.MethodName) ({ cls := "java/lang/Object", name := "equals", desc := "(Ljava/lang/Object;)Z" } : Jvm.MethodName)) ∈ lw_all := lw_g (lw_at lw_m3 46 rfl) rfl
theorem q2077 : (Jvm.Cond.castable "RoleLoom$Part" "java/lang/Object") ∈ lw_tbl := lw_at lw_m9 82 rfl
theorem in_X5 : ∀ w ∈ wsX50, w ∈ lw_all := lw_in wsX50 [449, 451, 453, 455, 457, 459, 461, 463, 465] (by decide +kernel) (by decide +kernel)
/-! RoleLoom$Body -/
set_option maxRecDepth 100000
def RX6 : String := "RoleLoom$Body"
def TX6 : u_T := fun k => match k with
  | 0 => ("RoleLoom$Body", "part", "LRoleLoom$Part;", true)
  | 1 => ("RoleLoom$Body", "use", "I", true)
  | 2 => ("RoleLoom$Body", "member", "I", true)
  | 3 => ("RoleLoom$Body", "catches", "I", true)
  | _ => ("RoleLoom$Body", "acts", "Ljava/util/ArrayList;", true)
def tyX6 : Nat → FieldType := fun k => match k with
  | 0 => .object "RoleLoom$Part"
  | 1 => .int
  | 2 => .int
  | 3 => .int
  | _ => .object "java/util/ArrayList"
abbrev wsX60 : List Cond := u_ws RX6 TX6 5
theorem nmX6 : ∀ a, a < 5 → ∀ b, b < 5 → a ≠ b → (TX6 a).2.1 ≠ (TX6 b).2.1 := by decide +kernel
theorem tyX6_ok : ∀ k, k < 5 → parseFieldDescriptor (TX6 k).2.2.1 = some (tyX6 k) := by decide +kernel
abbrev cX6_init : ByteArray := prog_9_method_1_code
def yX6_init : MethodName := ⟨RX6, "<init>", "(LRoleLoom$Part;III)V"⟩
def dkwX6_init_1 : List UInt8 := [181, 0, 20, 42, 29, 181, 0, 24, 42, 21, 4, 181, 0, 27, 177]
abbrev dktX6_init_1 : List UInt8 := dkwX6_init_1 ++ []
def dkwX6_init_0 : List UInt8 := [42, 183, 0, 1, 42, 187, 0, 7, 89, 183, 0, 9, 181, 0, 10, 42, 43, 181, 0, 16, 42, 28]
abbrev dktX6_init_0 : List UInt8 := dkwX6_init_0 ++ dktX6_init_1
theorem dksX6_init_0 : cX6_init.data.toList.drop 0 = dktX6_init_0 := by decide +kernel
theorem dksX6_init_1 : cX6_init.data.toList.drop 22 = dktX6_init_1 := dk_seg dksX6_init_0 22 rfl rfl
theorem dX6_init_0 : decode cX6_init 0 = .ok (.aload_n 0, 1) := dk_42 (dk_at dksX6_init_0 0 rfl rfl)
theorem dX6_init_1 : decode cX6_init 1 = .ok (.invokespecial 1, 3) := dk_183 0 1 (dk_at dksX6_init_0 1 rfl rfl)
theorem dX6_init_4 : decode cX6_init 4 = .ok (.aload_n 0, 1) := dk_42 (dk_at dksX6_init_0 4 rfl rfl)
theorem dX6_init_5 : decode cX6_init 5 = .ok (.new 7, 3) := dk_187 0 7 (dk_at dksX6_init_0 5 rfl rfl)
theorem dX6_init_8 : decode cX6_init 8 = .ok (.dup, 1) := dk_89 (dk_at dksX6_init_0 8 rfl rfl)
theorem dX6_init_9 : decode cX6_init 9 = .ok (.invokespecial 9, 3) := dk_183 0 9 (dk_at dksX6_init_0 9 rfl rfl)
theorem dX6_init_12 : decode cX6_init 12 = .ok (.putfield 10, 3) := dk_181 0 10 (dk_at dksX6_init_0 12 rfl rfl)
theorem dX6_init_15 : decode cX6_init 15 = .ok (.aload_n 0, 1) := dk_42 (dk_at dksX6_init_0 15 rfl rfl)
theorem dX6_init_16 : decode cX6_init 16 = .ok (.aload_n 1, 1) := dk_43 (dk_at dksX6_init_0 16 rfl rfl)
theorem dX6_init_17 : decode cX6_init 17 = .ok (.putfield 16, 3) := dk_181 0 16 (dk_at dksX6_init_0 17 rfl rfl)
theorem dX6_init_20 : decode cX6_init 20 = .ok (.aload_n 0, 1) := dk_42 (dk_at dksX6_init_0 20 rfl rfl)
theorem dX6_init_21 : decode cX6_init 21 = .ok (.iload_n 2, 1) := dk_28 (dk_at dksX6_init_0 21 rfl rfl)
theorem dX6_init_22 : decode cX6_init 22 = .ok (.putfield 20, 3) := dk_181 0 20 (dk_at dksX6_init_1 0 rfl rfl)
theorem dX6_init_25 : decode cX6_init 25 = .ok (.aload_n 0, 1) := dk_42 (dk_at dksX6_init_1 3 rfl rfl)
theorem dX6_init_26 : decode cX6_init 26 = .ok (.iload_n 3, 1) := dk_29 (dk_at dksX6_init_1 4 rfl rfl)
theorem dX6_init_27 : decode cX6_init 27 = .ok (.putfield 24, 3) := dk_181 0 24 (dk_at dksX6_init_1 5 rfl rfl)
theorem dX6_init_30 : decode cX6_init 30 = .ok (.aload_n 0, 1) := dk_42 (dk_at dksX6_init_1 8 rfl rfl)
theorem dX6_init_31 : decode cX6_init 31 = .ok (.iload 4, 2) := dk_21 4 (dk_at dksX6_init_1 9 rfl rfl)
theorem dX6_init_33 : decode cX6_init 33 = .ok (.putfield 27, 3) := dk_181 0 27 (dk_at dksX6_init_1 11 rfl rfl)
theorem dX6_init_36 : decode cX6_init 36 = .ok (.return_, 1) := dk_177 (dk_at dksX6_init_1 14 rfl rfl)
theorem q93 : (Jvm.Cond.initialized "RoleLoom$Body") ∈ lw_all := lw_g (lw_at lw_m1 18 rfl) rfl
theorem q507 : (Jvm.Cond.selects "RoleLoom$Body" ({ cls := "java/lang/Object", name := "getClass", desc := "()Ljava/lang/Class;" } : Jvm.MethodName) ({ cls := "java/lang/Object", name := "getClass", desc := "()Ljava/lang/Class;" } : Jvm.MethodName)) ∈ lw_all := lw_g (lw_at lw_m2 192 rfl) rfl
theorem q590 : (Jvm.Cond.selects "RoleLoom$Body" ({ cls := "java/lang/Object", name := "equals", desc := "(Ljava/lang/Object;)Z" } : Jvm.MethodName) ({ cls := "java/lang/Object", name := "equals", desc := "(Ljava/lang/Object;)Z" } : Jvm.MethodName)) ∈ lw_all := lw_g (lw_at lw_m3 35 rfl) rfl
theorem q625 : (Jvm.Cond.instantiable "RoleLoom$Body" (5 : Nat)) ∈ lw_all := lw_g (lw_at lw_m3 70 rfl) rfl
theorem q627 : (Jvm.Cond.instanceMethod ({ cls := "RoleLoom$Body", name := "<init>", desc := "(LRoleLoom$Part;III)V" } : Jvm.MethodName)) ∈ lw_all := lw_g (lw_at lw_m3 72 rfl) rfl
theorem q628 : (Jvm.Cond.code ({ cls := "RoleLoom$Body", name := "<init>", desc := "(LRoleLoom$Part;III)V" } : Jvm.MethodName) prog_9_method_1_code (5 : Nat) (Option.none : Option Jvm.ClassFile.FieldType)) ∈ lw_all := lw_g (lw_at lw_m3 73 rfl) rfl
theorem q629 : (Jvm.Cond.methodLink "RoleLoom$Body" (1 : Nat) ({ cls := "java/lang/Object", name := "<init>", desc := "()V" } : Jvm.MethodName)) ∈ lw_all := lw_g (lw_at lw_m3 74 rfl) rfl
theorem q630 : (Jvm.Cond.classLink "RoleLoom$Body" (7 : Nat) "java/util/ArrayList") ∈ lw_all := lw_g (lw_at lw_m3 75 rfl) rfl
theorem q631 : (Jvm.Cond.methodLink "RoleLoom$Body" (9 : Nat) ({ cls := "java/util/ArrayList", name := "<init>", desc := "()V" } : Jvm.MethodName)) ∈ lw_all := lw_g (lw_at lw_m3 76 rfl) rfl
theorem q632 : (Jvm.Cond.fieldLink "RoleLoom$Body" (16 : Nat) "RoleLoom$Body" "part" "LRoleLoom$Part;") ∈ lw_all := lw_g (lw_at lw_m3 77 rfl) rfl
theorem q634 : (Jvm.Cond.fieldLink "RoleLoom$Body" (20 : Nat) "RoleLoom$Body" "use" "I") ∈ lw_all := lw_g (lw_at lw_m3 79 rfl) rfl
theorem q636 : (Jvm.Cond.fieldLink "RoleLoom$Body" (24 : Nat) "RoleLoom$Body" "member" "I") ∈ lw_all := lw_g (lw_at lw_m3 81 rfl) rfl
theorem q639 : (Jvm.Cond.fieldLink "RoleLoom$Body" (27 : Nat) "RoleLoom$Body" "catches" "I") ∈ lw_all := lw_g (lw_at lw_m3 84 rfl) rfl
theorem q641 : (Jvm.Cond.fieldLink "RoleLoom$Body" (10 : Nat) "RoleLoom$Body" "acts" "Ljava/util/ArrayList;") ∈ lw_all := lw_g (lw_at lw_m3 86 rfl) rfl
theorem q643 : (Jvm.Cond.laysFinal "RoleLoom$Body" "RoleLoom$Body" "part" "LRoleLoom$Part;") ∈ lw_all := lw_g (lw_at lw_m3 88 rfl) rfl
theorem q644 : (Jvm.Cond.soleField "RoleLoom$Body" "part") ∈ lw_all := lw_g (lw_at lw_m3 89 rfl) rfl
theorem q645 : (Jvm.Cond.laysFinal "RoleLoom$Body" "RoleLoom$Body" "use" "I") ∈ lw_all := lw_g (lw_at lw_m3 90 rfl) rfl
theorem q646 : (Jvm.Cond.soleField "RoleLoom$Body" "use") ∈ lw_all := lw_g (lw_at lw_m3 91 rfl) rfl
theorem q647 : (Jvm.Cond.laysFinal "RoleLoom$Body" "RoleLoom$Body" "member" "I") ∈ lw_all := lw_g (lw_at lw_m3 92 rfl) rfl
theorem q648 : (Jvm.Cond.soleField "RoleLoom$Body" "member") ∈ lw_all := lw_g (lw_at lw_m3 93 rfl) rfl
theorem q649 : (Jvm.Cond.laysFinal "RoleLoom$Body" "RoleLoom$Body" "catches" "I") ∈ lw_all := lw_g (lw_at lw_m3 94 rfl) rfl
theorem q650 : (Jvm.Cond.soleField "RoleLoom$Body" "catches") ∈ lw_all := lw_g (lw_at lw_m3 95 rfl) rfl
theorem q651 : (Jvm.Cond.laysFinal "RoleLoom$Body" "RoleLoom$Body" "acts" "Ljava/util/ArrayList;") ∈ lw_all := lw_g (lw_at lw_m3 96 rfl) rfl
theorem q652 : (Jvm.Cond.soleField "RoleLoom$Body" "acts") ∈ lw_all := lw_g (lw_at lw_m3 97 rfl) rfl
theorem q653 : (Jvm.Cond.superclass "RoleLoom$Body" "java/lang/Object") ∈ lw_all := lw_g (lw_at lw_m3 98 rfl) rfl
theorem q2070 : (Jvm.Cond.castable "RoleLoom$Body" "java/lang/Object") ∈ lw_tbl := lw_at lw_m9 75 rfl
theorem in_X6 : ∀ w ∈ wsX60, w ∈ lw_all := lw_in wsX60 [643, 645, 647, 649, 651] (by decide +kernel) (by decide +kernel)
/-! RoleLoom$Act -/
set_option maxRecDepth 100000
def RX7 : String := "RoleLoom$Act"
abbrev cX7_init : ByteArray := prog_2_method_1_code
def yX7_init : MethodName := ⟨RX7, "<init>", "(LRoleLoom;II)V"⟩
def dkwX7_init_0 : List UInt8 := [42, 43, 181, 0, 1, 42, 183, 0, 7, 42, 28, 181, 0, 13, 42, 29, 181, 0, 17, 177]
abbrev dktX7_init_0 : List UInt8 := dkwX7_init_0 ++ []
theorem dksX7_init_0 : cX7_init.data.toList.drop 0 = dktX7_init_0 := by decide +kernel
theorem dX7_init_0 : decode cX7_init 0 = .ok (.aload_n 0, 1) := dk_42 (dk_at dksX7_init_0 0 rfl rfl)
theorem dX7_init_1 : decode cX7_init 1 = .ok (.aload_n 1, 1) := dk_43 (dk_at dksX7_init_0 1 rfl rfl)
theorem dX7_init_2 : decode cX7_init 2 = .ok (.putfield 1, 3) := dk_181 0 1 (dk_at dksX7_init_0 2 rfl rfl)
theorem dX7_init_5 : decode cX7_init 5 = .ok (.aload_n 0, 1) := dk_42 (dk_at dksX7_init_0 5 rfl rfl)
theorem dX7_init_6 : decode cX7_init 6 = .ok (.invokespecial 7, 3) := dk_183 0 7 (dk_at dksX7_init_0 6 rfl rfl)
theorem dX7_init_9 : decode cX7_init 9 = .ok (.aload_n 0, 1) := dk_42 (dk_at dksX7_init_0 9 rfl rfl)
theorem dX7_init_10 : decode cX7_init 10 = .ok (.iload_n 2, 1) := dk_28 (dk_at dksX7_init_0 10 rfl rfl)
theorem dX7_init_11 : decode cX7_init 11 = .ok (.putfield 13, 3) := dk_181 0 13 (dk_at dksX7_init_0 11 rfl rfl)
theorem dX7_init_14 : decode cX7_init 14 = .ok (.aload_n 0, 1) := dk_42 (dk_at dksX7_init_0 14 rfl rfl)
theorem dX7_init_15 : decode cX7_init 15 = .ok (.iload_n 3, 1) := dk_29 (dk_at dksX7_init_0 15 rfl rfl)
theorem dX7_init_16 : decode cX7_init 16 = .ok (.putfield 17, 3) := dk_181 0 17 (dk_at dksX7_init_0 16 rfl rfl)
theorem dX7_init_19 : decode cX7_init 19 = .ok (.return_, 1) := dk_177 (dk_at dksX7_init_0 19 rfl rfl)
theorem q94 : (Jvm.Cond.initialized "RoleLoom$Act") ∈ lw_all := lw_g (lw_at lw_m1 19 rfl) rfl
theorem q668 : (Jvm.Cond.instanceMethod ({ cls := "RoleLoom$Act", name := "<init>", desc := "(LRoleLoom;II)V" } : Jvm.MethodName)) ∈ lw_all := lw_g (lw_at lw_m3 113 rfl) rfl
theorem q669 : (Jvm.Cond.code ({ cls := "RoleLoom$Act", name := "<init>", desc := "(LRoleLoom;II)V" } : Jvm.MethodName) prog_2_method_1_code (4 : Nat) (Option.none : Option Jvm.ClassFile.FieldType)) ∈ lw_all := lw_g (lw_at lw_m3 114 rfl) rfl
theorem q670 : (Jvm.Cond.methodLink "RoleLoom$Act" (7 : Nat) ({ cls := "java/lang/Object", name := "<init>", desc := "()V" } : Jvm.MethodName)) ∈ lw_all := lw_g (lw_at lw_m3 115 rfl) rfl
theorem q672 : (Jvm.Cond.fieldLink "RoleLoom$Act" (13 : Nat) "RoleLoom$Act" "a" "I") ∈ lw_all := lw_g (lw_at lw_m3 117 rfl) rfl
theorem q701 : (Jvm.Cond.fieldLink "RoleLoom$Act" (17 : Nat) "RoleLoom$Act" "b" "I") ∈ lw_all := lw_g (lw_at lw_m3 146 rfl) rfl
theorem q708 : (Jvm.Cond.fieldLink "RoleLoom$Act" (1 : Nat) "RoleLoom$Act" "this$0" "LRoleLoom;") ∈ lw_all := lw_g (lw_at lw_m3 153 rfl) rfl
theorem q712 : (Jvm.Cond.soleField "RoleLoom$Act" "a") ∈ lw_all := lw_g (lw_at lw_m3 157 rfl) rfl
theorem q714 : (Jvm.Cond.soleField "RoleLoom$Act" "b") ∈ lw_all := lw_g (lw_at lw_m3 159 rfl) rfl
theorem q716 : (Jvm.Cond.soleField "RoleLoom$Act" "this$0") ∈ lw_all := lw_g (lw_at lw_m3 161 rfl) rfl
theorem q1289 : (Jvm.Cond.superclass "RoleLoom$Act" "java/lang/Object") ∈ lw_all := lw_g (lw_at lw_m6 14 rfl) rfl
/-! RoleLoom$Number -/
set_option maxRecDepth 100000
def RX8 : String := "RoleLoom$Number"
def TX8 : u_T := fun k => match k with
  | 0 => ("RoleLoom$Act", "a", "I", true)
  | 1 => ("RoleLoom$Act", "b", "I", true)
  | 2 => ("RoleLoom$Act", "this$0", "LRoleLoom;", true)
  | _ => ("RoleLoom$Number", "this$0", "LRoleLoom;", true)
def tyX8 : Nat → FieldType := fun k => match k with
  | 0 => .int
  | 1 => .int
  | 2 => .object "RoleLoom"
  | _ => .object "RoleLoom"
abbrev wsX80 : List Cond := u_ws RX8 TX8 4
-- two fields of one name: no nmX8
theorem tyX8_ok : ∀ k, k < 4 → parseFieldDescriptor (TX8 k).2.2.1 = some (tyX8 k) := by decide +kernel
abbrev cX8_init : ByteArray := prog_19_method_1_code
def yX8_init : MethodName := ⟨RX8, "<init>", "(LRoleLoom;I)V"⟩
def dkwX8_init_0 : List UInt8 := [42, 43, 181, 0, 1, 42, 43, 28, 3, 183, 0, 7, 177]
abbrev dktX8_init_0 : List UInt8 := dkwX8_init_0 ++ []
theorem dksX8_init_0 : cX8_init.data.toList.drop 0 = dktX8_init_0 := by decide +kernel
theorem dX8_init_0 : decode cX8_init 0 = .ok (.aload_n 0, 1) := dk_42 (dk_at dksX8_init_0 0 rfl rfl)
theorem dX8_init_1 : decode cX8_init 1 = .ok (.aload_n 1, 1) := dk_43 (dk_at dksX8_init_0 1 rfl rfl)
theorem dX8_init_2 : decode cX8_init 2 = .ok (.putfield 1, 3) := dk_181 0 1 (dk_at dksX8_init_0 2 rfl rfl)
theorem dX8_init_5 : decode cX8_init 5 = .ok (.aload_n 0, 1) := dk_42 (dk_at dksX8_init_0 5 rfl rfl)
theorem dX8_init_6 : decode cX8_init 6 = .ok (.aload_n 1, 1) := dk_43 (dk_at dksX8_init_0 6 rfl rfl)
theorem dX8_init_7 : decode cX8_init 7 = .ok (.iload_n 2, 1) := dk_28 (dk_at dksX8_init_0 7 rfl rfl)
theorem dX8_init_8 : decode cX8_init 8 = .ok (.iconst 0, 1) := dk_3 (dk_at dksX8_init_0 8 rfl rfl)
theorem dX8_init_9 : decode cX8_init 9 = .ok (.invokespecial 7, 3) := dk_183 0 7 (dk_at dksX8_init_0 9 rfl rfl)
theorem dX8_init_12 : decode cX8_init 12 = .ok (.return_, 1) := dk_177 (dk_at dksX8_init_0 12 rfl rfl)
abbrev cX8_fits : ByteArray := prog_19_method_3_code
def yX8_fits : MethodName := ⟨RX8, "fits", "(LRoleLoom$Part;)Z"⟩
def dkwX8_fits_0 : List UInt8 := [42, 180, 0, 13, 184, 0, 17, 172]
abbrev dktX8_fits_0 : List UInt8 := dkwX8_fits_0 ++ []
theorem dksX8_fits_0 : cX8_fits.data.toList.drop 0 = dktX8_fits_0 := by decide +kernel
theorem dX8_fits_0 : decode cX8_fits 0 = .ok (.aload_n 0, 1) := dk_42 (dk_at dksX8_fits_0 0 rfl rfl)
theorem dX8_fits_1 : decode cX8_fits 1 = .ok (.getfield 13, 3) := dk_180 0 13 (dk_at dksX8_fits_0 1 rfl rfl)
theorem dX8_fits_4 : decode cX8_fits 4 = .ok (.invokestatic 17, 3) := dk_184 0 17 (dk_at dksX8_fits_0 4 rfl rfl)
theorem dX8_fits_7 : decode cX8_fits 7 = .ok (.ireturn, 1) := dk_172 (dk_at dksX8_fits_0 7 rfl rfl)
abbrev cX8_act : ByteArray := prog_19_method_2_code
def yX8_act : MethodName := ⟨RX8, "act", "(LRoleLoom$Frame;J)J"⟩
def dkwX8_act_0 : List UInt8 := [42, 180, 0, 13, 133, 173]
abbrev dktX8_act_0 : List UInt8 := dkwX8_act_0 ++ []
theorem dksX8_act_0 : cX8_act.data.toList.drop 0 = dktX8_act_0 := by decide +kernel
theorem dX8_act_0 : decode cX8_act 0 = .ok (.aload_n 0, 1) := dk_42 (dk_at dksX8_act_0 0 rfl rfl)
theorem dX8_act_1 : decode cX8_act 1 = .ok (.getfield 13, 3) := dk_180 0 13 (dk_at dksX8_act_0 1 rfl rfl)
theorem dX8_act_4 : decode cX8_act 4 = .ok (.i2l, 1) := dk_133 (dk_at dksX8_act_0 4 rfl rfl)
theorem dX8_act_5 : decode cX8_act 5 = .ok (.lreturn, 1) := dk_173 (dk_at dksX8_act_0 5 rfl rfl)
theorem q95 : (Jvm.Cond.initialized "RoleLoom$Number") ∈ lw_all := lw_g (lw_at lw_m1 20 rfl) rfl
theorem q516 : (Jvm.Cond.selects "RoleLoom$Number" ({ cls := "java/lang/Object", name := "getClass", desc := "()Ljava/lang/Class;" } : Jvm.MethodName) ({ cls := "java/lang/Object", name := "getClass", desc := "()Ljava/lang/Class;" } : Jvm.MethodName)) ∈ lw_all := lw_g (lw_at lw_m2 201 rfl) rfl
theorem q599 : (Jvm.Cond.selects "RoleLoom$Number" ({ cls := "java/lang/Object", name := "equals", desc := "(Ljava/lang/Object;)Z" } : Jvm.MethodName) ({ cls := "java/lang/Object", name := "equals", desc := "(Ljava/lang/Object;)Z" } : Jvm.MethodName)) ∈ lw_all := lw_g (lw_at lw_m3 44 rfl) rfl
theorem q663 : (Jvm.Cond.instantiable "RoleLoom$Number" (4 : Nat)) ∈ lw_all := lw_g (lw_at lw_m3 108 rfl) rfl
theorem q665 : (Jvm.Cond.instanceMethod ({ cls := "RoleLoom$Number", name := "<init>", desc := "(LRoleLoom;I)V" } : Jvm.MethodName)) ∈ lw_all := lw_g (lw_at lw_m3 110 rfl) rfl
theorem q666 : (Jvm.Cond.code ({ cls := "RoleLoom$Number", name := "<init>", desc := "(LRoleLoom;I)V" } : Jvm.MethodName) prog_19_method_1_code (3 : Nat) (Option.none : Option Jvm.ClassFile.FieldType)) ∈ lw_all := lw_g (lw_at lw_m3 111 rfl) rfl
theorem q667 : (Jvm.Cond.methodLink "RoleLoom$Number" (7 : Nat) ({ cls := "RoleLoom$Act", name := "<init>", desc := "(LRoleLoom;II)V" } : Jvm.MethodName)) ∈ lw_all := lw_g (lw_at lw_m3 112 rfl) rfl
theorem q671 : (Jvm.Cond.fieldLink "RoleLoom$Number" (1 : Nat) "RoleLoom$Number" "this$0" "LRoleLoom;") ∈ lw_all := lw_g (lw_at lw_m3 116 rfl) rfl
theorem q673 : (Jvm.Cond.fieldLink "RoleLoom$Number" (13 : Nat) "RoleLoom$Number" "a" "I") ∈ lw_all := lw_g (lw_at lw_m3 118 rfl) rfl
theorem q674 : (Jvm.Cond.sameField "RoleLoom$Number" "RoleLoom$Act" "a" "I") ∈ lw_all := lw_g (lw_at lw_m3 119 rfl) rfl
theorem q709 : (Jvm.Cond.laysFinal "RoleLoom$Number" "RoleLoom$Number" "this$0" "LRoleLoom;") ∈ lw_all := lw_g (lw_at lw_m3 154 rfl) rfl
theorem q710 : (Jvm.Cond.soleField "RoleLoom$Number" "this$0") ∈ lw_all := lw_g (lw_at lw_m3 155 rfl) rfl
theorem q711 : (Jvm.Cond.laysFinal "RoleLoom$Number" "RoleLoom$Act" "a" "I") ∈ lw_all := lw_g (lw_at lw_m3 156 rfl) rfl
theorem q713 : (Jvm.Cond.laysFinal "RoleLoom$Number" "RoleLoom$Act" "b" "I") ∈ lw_all := lw_g (lw_at lw_m3 158 rfl) rfl
theorem q715 : (Jvm.Cond.laysFinal "RoleLoom$Number" "RoleLoom$Act" "this$0" "LRoleLoom;") ∈ lw_all := lw_g (lw_at lw_m3 160 rfl) rfl
theorem q717 : (Jvm.Cond.superclass "RoleLoom$Number" "RoleLoom$Act") ∈ lw_all := lw_g (lw_at lw_m3 162 rfl) rfl
theorem q1045 : (Jvm.Cond.castable "RoleLoom$Number" "RoleLoom$Does") ∈ lw_tbl := lw_at lw_m5 10 rfl
theorem q1046 : (Jvm.Cond.selects "RoleLoom$Number" ({ cls := "RoleLoom$Does", name := "fits", desc := "(LRoleLoom$Part;)Z" } : Jvm.MethodName) ({ cls := "RoleLoom$Number", name := "fits", desc := "(LRoleLoom$Part;)Z" } : Jvm.MethodName)) ∈ lw_all := lw_g (lw_at lw_m5 11 rfl) rfl
theorem q1047 : (Jvm.Cond.unhidden "RoleLoom$Number" "fits" "(LRoleLoom$Part;)Z") ∈ lw_tbl := lw_at lw_m5 12 rfl
theorem q1048 : (Jvm.Cond.instanceMethod ({ cls := "RoleLoom$Number", name := "fits", desc := "(LRoleLoom$Part;)Z" } : Jvm.MethodName)) ∈ lw_all := lw_g (lw_at lw_m5 13 rfl) rfl
theorem q1049 : (Jvm.Cond.publicMethod ({ cls := "RoleLoom$Number", name := "fits", desc := "(LRoleLoom$Part;)Z" } : Jvm.MethodName)) ∈ lw_tbl := lw_at lw_m5 14 rfl
theorem q1050 : (Jvm.Cond.code ({ cls := "RoleLoom$Number", name := "fits", desc := "(LRoleLoom$Part;)Z" } : Jvm.MethodName) prog_19_method_3_code (2 : Nat) (Option.some Jvm.ClassFile.FieldType.boolean)) ∈ lw_all := lw_g (lw_at lw_m5 15 rfl) rfl
theorem q1051 : (Jvm.Cond.methodLinkNest "RoleLoom$Number" (17 : Nat) ({ cls := "RoleLoom", name := "isNumber", desc := "(I)Z" } : Jvm.MethodName) "RoleLoom") ∈ lw_tbl := lw_at lw_m5 16 rfl
theorem q1376 : (Jvm.Cond.selects "RoleLoom$Number" ({ cls := "RoleLoom$Does", name := "act", desc := "(LRoleLoom$Frame;J)J" } : Jvm.MethodName) ({ cls := "RoleLoom$Number", name := "act", desc := "(LRoleLoom$Frame;J)J" } : Jvm.MethodName)) ∈ lw_all := lw_g (lw_at lw_m6 101 rfl) rfl
theorem q1377 : (Jvm.Cond.instanceMethod ({ cls := "RoleLoom$Number", name := "act", desc := "(LRoleLoom$Frame;J)J" } : Jvm.MethodName)) ∈ lw_all := lw_g (lw_at lw_m6 102 rfl) rfl
theorem q1378 : (Jvm.Cond.code ({ cls := "RoleLoom$Number", name := "act", desc := "(LRoleLoom$Frame;J)J" } : Jvm.MethodName) prog_19_method_2_code (4 : Nat) (Option.some Jvm.ClassFile.FieldType.long)) ∈ lw_all := lw_g (lw_at lw_m6 103 rfl) rfl
theorem q2063 : (Jvm.Cond.castable "RoleLoom$Number" "RoleLoom$Act") ∈ lw_tbl := lw_at lw_m9 68 rfl
theorem q2078 : (Jvm.Cond.castable "RoleLoom$Number" "java/lang/Object") ∈ lw_tbl := lw_at lw_m9 83 rfl
theorem in_X8 : ∀ w ∈ wsX80, w ∈ lw_all := lw_in wsX80 [711, 713, 715, 709] (by decide +kernel) (by decide +kernel)
/-! RoleLoom$Argument -/
set_option maxRecDepth 100000
def RX9 : String := "RoleLoom$Argument"
def TX9 : u_T := fun k => match k with
  | 0 => ("RoleLoom$Act", "a", "I", true)
  | 1 => ("RoleLoom$Act", "b", "I", true)
  | 2 => ("RoleLoom$Act", "this$0", "LRoleLoom;", true)
  | _ => ("RoleLoom$Argument", "this$0", "LRoleLoom;", true)
def tyX9 : Nat → FieldType := fun k => match k with
  | 0 => .int
  | 1 => .int
  | 2 => .object "RoleLoom"
  | _ => .object "RoleLoom"
abbrev wsX90 : List Cond := u_ws RX9 TX9 4
-- two fields of one name: no nmX9
theorem tyX9_ok : ∀ k, k < 4 → parseFieldDescriptor (TX9 k).2.2.1 = some (tyX9 k) := by decide +kernel
abbrev cX9_init : ByteArray := prog_5_method_1_code
def yX9_init : MethodName := ⟨RX9, "<init>", "(LRoleLoom;)V"⟩
def dkwX9_init_0 : List UInt8 := [42, 43, 181, 0, 1, 42, 43, 3, 3, 183, 0, 7, 177]
abbrev dktX9_init_0 : List UInt8 := dkwX9_init_0 ++ []
theorem dksX9_init_0 : cX9_init.data.toList.drop 0 = dktX9_init_0 := by decide +kernel
theorem dX9_init_0 : decode cX9_init 0 = .ok (.aload_n 0, 1) := dk_42 (dk_at dksX9_init_0 0 rfl rfl)
theorem dX9_init_1 : decode cX9_init 1 = .ok (.aload_n 1, 1) := dk_43 (dk_at dksX9_init_0 1 rfl rfl)
theorem dX9_init_2 : decode cX9_init 2 = .ok (.putfield 1, 3) := dk_181 0 1 (dk_at dksX9_init_0 2 rfl rfl)
theorem dX9_init_5 : decode cX9_init 5 = .ok (.aload_n 0, 1) := dk_42 (dk_at dksX9_init_0 5 rfl rfl)
theorem dX9_init_6 : decode cX9_init 6 = .ok (.aload_n 1, 1) := dk_43 (dk_at dksX9_init_0 6 rfl rfl)
theorem dX9_init_7 : decode cX9_init 7 = .ok (.iconst 0, 1) := dk_3 (dk_at dksX9_init_0 7 rfl rfl)
theorem dX9_init_8 : decode cX9_init 8 = .ok (.iconst 0, 1) := dk_3 (dk_at dksX9_init_0 8 rfl rfl)
theorem dX9_init_9 : decode cX9_init 9 = .ok (.invokespecial 7, 3) := dk_183 0 7 (dk_at dksX9_init_0 9 rfl rfl)
theorem dX9_init_12 : decode cX9_init 12 = .ok (.return_, 1) := dk_177 (dk_at dksX9_init_0 12 rfl rfl)
abbrev cX9_act : ByteArray := prog_5_method_2_code
def yX9_act : MethodName := ⟨RX9, "act", "(LRoleLoom$Frame;J)J"⟩
theorem dX9_act_0 : decode cX9_act 0 = .ok (.aload_n 1, 1) := by decide +kernel
theorem dX9_act_1 : decode cX9_act 1 = .ok (.getfield 13, 3) := by decide +kernel
theorem dX9_act_4 : decode cX9_act 4 = .ok (.lreturn, 1) := by decide +kernel
theorem q96 : (Jvm.Cond.initialized "RoleLoom$Argument") ∈ lw_all := lw_g (lw_at lw_m1 21 rfl) rfl
theorem q264 : (Jvm.Cond.fieldLinkNest "RoleLoom$Argument" (13 : Nat) "RoleLoom$Frame" "argument" "J" "RoleLoom") ∈ lw_tbl := lw_at lw_m1 189 rfl
theorem q503 : (Jvm.Cond.selects "RoleLoom$Argument" ({ cls := "java/lang/Object", name := "getClass", desc := "()Ljava/lang/Class;" } : Jvm.MethodName) ({ cls := "java/lang/Object", name := "getClass", desc := "()Ljava/lang/Class;" } : Jvm.MethodName)) ∈ lw_all := lw_g (lw_at lw_m2 188 rfl) rfl
theorem q586 : (Jvm.Cond.selects "RoleLoom$Argument" ({ cls := "java/lang/Object", name := "equals", desc := "(Ljava/lang/Object;)Z" } : Jvm.MethodName) ({ cls := "java/lang/Object", name := "equals", desc := "(Ljava/lang/Object;)Z" } : Jvm.MethodName)) ∈ lw_all := lw_g (lw_at lw_m3 31 rfl) rfl
theorem q719 : (Jvm.Cond.instantiable "RoleLoom$Argument" (4 : Nat)) ∈ lw_all := lw_g (lw_at lw_m3 164 rfl) rfl
theorem q721 : (Jvm.Cond.instanceMethod ({ cls := "RoleLoom$Argument", name := "<init>", desc := "(LRoleLoom;)V" } : Jvm.MethodName)) ∈ lw_all := lw_g (lw_at lw_m3 166 rfl) rfl
theorem q722 : (Jvm.Cond.code ({ cls := "RoleLoom$Argument", name := "<init>", desc := "(LRoleLoom;)V" } : Jvm.MethodName) prog_5_method_1_code (2 : Nat) (Option.none : Option Jvm.ClassFile.FieldType)) ∈ lw_all := lw_g (lw_at lw_m3 167 rfl) rfl
theorem q723 : (Jvm.Cond.methodLink "RoleLoom$Argument" (7 : Nat) ({ cls := "RoleLoom$Act", name := "<init>", desc := "(LRoleLoom;II)V" } : Jvm.MethodName)) ∈ lw_all := lw_g (lw_at lw_m3 168 rfl) rfl
theorem q724 : (Jvm.Cond.fieldLink "RoleLoom$Argument" (1 : Nat) "RoleLoom$Argument" "this$0" "LRoleLoom;") ∈ lw_all := lw_g (lw_at lw_m3 169 rfl) rfl
theorem q725 : (Jvm.Cond.laysFinal "RoleLoom$Argument" "RoleLoom$Argument" "this$0" "LRoleLoom;") ∈ lw_all := lw_g (lw_at lw_m3 170 rfl) rfl
theorem q726 : (Jvm.Cond.soleField "RoleLoom$Argument" "this$0") ∈ lw_all := lw_g (lw_at lw_m3 171 rfl) rfl
theorem q727 : (Jvm.Cond.laysFinal "RoleLoom$Argument" "RoleLoom$Act" "a" "I") ∈ lw_all := lw_g (lw_at lw_m3 172 rfl) rfl
theorem q728 : (Jvm.Cond.laysFinal "RoleLoom$Argument" "RoleLoom$Act" "b" "I") ∈ lw_all := lw_g (lw_at lw_m3 173 rfl) rfl
theorem q729 : (Jvm.Cond.laysFinal "RoleLoom$Argument" "RoleLoom$Act" "this$0" "LRoleLoom;") ∈ lw_all := lw_g (lw_at lw_m3 174 rfl) rfl
theorem q730 : (Jvm.Cond.superclass "RoleLoom$Argument" "RoleLoom$Act") ∈ lw_all := lw_g (lw_at lw_m3 175 rfl) rfl
theorem q983 : (Jvm.Cond.castable "RoleLoom$Argument" "RoleLoom$Does") ∈ lw_tbl := lw_at lw_m4 188 rfl
theorem q984 : (Jvm.Cond.unhidden "RoleLoom$Argument" "fits" "(LRoleLoom$Part;)Z") ∈ lw_tbl := lw_at lw_m4 189 rfl
theorem q1309 : (Jvm.Cond.selects "RoleLoom$Argument" ({ cls := "RoleLoom$Does", name := "act", desc := "(LRoleLoom$Frame;J)J" } : Jvm.MethodName) ({ cls := "RoleLoom$Argument", name := "act", desc := "(LRoleLoom$Frame;J)J" } : Jvm.MethodName)) ∈ lw_all := lw_g (lw_at lw_m6 34 rfl) rfl
theorem q1310 : (Jvm.Cond.instanceMethod ({ cls := "RoleLoom$Argument", name := "act", desc := "(LRoleLoom$Frame;J)J" } : Jvm.MethodName)) ∈ lw_all := lw_g (lw_at lw_m6 35 rfl) rfl
theorem q1311 : (Jvm.Cond.code ({ cls := "RoleLoom$Argument", name := "act", desc := "(LRoleLoom$Frame;J)J" } : Jvm.MethodName) prog_5_method_2_code (4 : Nat) (Option.some Jvm.ClassFile.FieldType.long)) ∈ lw_all := lw_g (lw_at lw_m6 36 rfl) rfl
theorem q2052 : (Jvm.Cond.castable "RoleLoom$Argument" "RoleLoom$Act") ∈ lw_tbl := lw_at lw_m9 57 rfl
theorem q2079 : (Jvm.Cond.castable "RoleLoom$Argument" "java/lang/Object") ∈ lw_tbl := lw_at lw_m9 84 rfl
theorem in_X9 : ∀ w ∈ wsX90, w ∈ lw_all := lw_in wsX90 [727, 728, 729, 725] (by decide +kernel) (by decide +kernel)
/-! RoleLoom$Add -/
set_option maxRecDepth 100000
def RX10 : String := "RoleLoom$Add"
def TX10 : u_T := fun k => match k with
  | 0 => ("RoleLoom$Act", "a", "I", true)
  | 1 => ("RoleLoom$Act", "b", "I", true)
  | 2 => ("RoleLoom$Act", "this$0", "LRoleLoom;", true)
  | _ => ("RoleLoom$Add", "this$0", "LRoleLoom;", true)
def tyX10 : Nat → FieldType := fun k => match k with
  | 0 => .int
  | 1 => .int
  | 2 => .object "RoleLoom"
  | _ => .object "RoleLoom"
abbrev wsX100 : List Cond := u_ws RX10 TX10 4
-- two fields of one name: no nmX10
theorem tyX10_ok : ∀ k, k < 4 → parseFieldDescriptor (TX10 k).2.2.1 = some (tyX10 k) := by decide +kernel
abbrev cX10_init : ByteArray := prog_3_method_1_code
def yX10_init : MethodName := ⟨RX10, "<init>", "(LRoleLoom;I)V"⟩
def dkwX10_init_0 : List UInt8 := [42, 43, 181, 0, 1, 42, 43, 28, 3, 183, 0, 7, 177]
abbrev dktX10_init_0 : List UInt8 := dkwX10_init_0 ++ []
theorem dksX10_init_0 : cX10_init.data.toList.drop 0 = dktX10_init_0 := by decide +kernel
theorem dX10_init_0 : decode cX10_init 0 = .ok (.aload_n 0, 1) := dk_42 (dk_at dksX10_init_0 0 rfl rfl)
theorem dX10_init_1 : decode cX10_init 1 = .ok (.aload_n 1, 1) := dk_43 (dk_at dksX10_init_0 1 rfl rfl)
theorem dX10_init_2 : decode cX10_init 2 = .ok (.putfield 1, 3) := dk_181 0 1 (dk_at dksX10_init_0 2 rfl rfl)
theorem dX10_init_5 : decode cX10_init 5 = .ok (.aload_n 0, 1) := dk_42 (dk_at dksX10_init_0 5 rfl rfl)
theorem dX10_init_6 : decode cX10_init 6 = .ok (.aload_n 1, 1) := dk_43 (dk_at dksX10_init_0 6 rfl rfl)
theorem dX10_init_7 : decode cX10_init 7 = .ok (.iload_n 2, 1) := dk_28 (dk_at dksX10_init_0 7 rfl rfl)
theorem dX10_init_8 : decode cX10_init 8 = .ok (.iconst 0, 1) := dk_3 (dk_at dksX10_init_0 8 rfl rfl)
theorem dX10_init_9 : decode cX10_init 9 = .ok (.invokespecial 7, 3) := dk_183 0 7 (dk_at dksX10_init_0 9 rfl rfl)
theorem dX10_init_12 : decode cX10_init 12 = .ok (.return_, 1) := dk_177 (dk_at dksX10_init_0 12 rfl rfl)
abbrev cX10_fits : ByteArray := prog_3_method_3_code
def yX10_fits : MethodName := ⟨RX10, "fits", "(LRoleLoom$Part;)Z"⟩
def dkwX10_fits_0 : List UInt8 := [42, 180, 0, 13, 184, 0, 17, 172]
abbrev dktX10_fits_0 : List UInt8 := dkwX10_fits_0 ++ []
theorem dksX10_fits_0 : cX10_fits.data.toList.drop 0 = dktX10_fits_0 := by decide +kernel
theorem dX10_fits_0 : decode cX10_fits 0 = .ok (.aload_n 0, 1) := dk_42 (dk_at dksX10_fits_0 0 rfl rfl)
theorem dX10_fits_1 : decode cX10_fits 1 = .ok (.getfield 13, 3) := dk_180 0 13 (dk_at dksX10_fits_0 1 rfl rfl)
theorem dX10_fits_4 : decode cX10_fits 4 = .ok (.invokestatic 17, 3) := dk_184 0 17 (dk_at dksX10_fits_0 4 rfl rfl)
theorem dX10_fits_7 : decode cX10_fits 7 = .ok (.ireturn, 1) := dk_172 (dk_at dksX10_fits_0 7 rfl rfl)
abbrev cX10_act : ByteArray := prog_3_method_2_code
def yX10_act : MethodName := ⟨RX10, "act", "(LRoleLoom$Frame;J)J"⟩
def dkwX10_act_0 : List UInt8 := [32, 42, 180, 0, 13, 133, 97, 173]
abbrev dktX10_act_0 : List UInt8 := dkwX10_act_0 ++ []
theorem dksX10_act_0 : cX10_act.data.toList.drop 0 = dktX10_act_0 := by decide +kernel
theorem dX10_act_0 : decode cX10_act 0 = .ok (.lload_n 2, 1) := dk_32 (dk_at dksX10_act_0 0 rfl rfl)
theorem dX10_act_1 : decode cX10_act 1 = .ok (.aload_n 0, 1) := dk_42 (dk_at dksX10_act_0 1 rfl rfl)
theorem dX10_act_2 : decode cX10_act 2 = .ok (.getfield 13, 3) := dk_180 0 13 (dk_at dksX10_act_0 2 rfl rfl)
theorem dX10_act_5 : decode cX10_act 5 = .ok (.i2l, 1) := dk_133 (dk_at dksX10_act_0 5 rfl rfl)
theorem dX10_act_6 : decode cX10_act 6 = .ok (.ladd, 1) := dk_97 (dk_at dksX10_act_0 6 rfl rfl)
theorem dX10_act_7 : decode cX10_act 7 = .ok (.lreturn, 1) := dk_173 (dk_at dksX10_act_0 7 rfl rfl)
theorem q97 : (Jvm.Cond.initialized "RoleLoom$Add") ∈ lw_all := lw_g (lw_at lw_m1 22 rfl) rfl
theorem q501 : (Jvm.Cond.selects "RoleLoom$Add" ({ cls := "java/lang/Object", name := "getClass", desc := "()Ljava/lang/Class;" } : Jvm.MethodName) ({ cls := "java/lang/Object", name := "getClass", desc := "()Ljava/lang/Class;" } : Jvm.MethodName)) ∈ lw_all := lw_g (lw_at lw_m2 186 rfl) rfl
theorem q584 : (Jvm.Cond.selects "RoleLoom$Add" ({ cls := "java/lang/Object", name := "equals", desc := "(Ljava/lang/Object;)Z" } : Jvm.MethodName) ({ cls := "java/lang/Object", name := "equals", desc := "(Ljava/lang/Object;)Z" } : Jvm.MethodName)) ∈ lw_all := lw_g (lw_at lw_m3 29 rfl) rfl
theorem q675 : (Jvm.Cond.fieldLink "RoleLoom$Add" (13 : Nat) "RoleLoom$Add" "a" "I") ∈ lw_all := lw_g (lw_at lw_m3 120 rfl) rfl
theorem q676 : (Jvm.Cond.sameField "RoleLoom$Add" "RoleLoom$Act" "a" "I") ∈ lw_all := lw_g (lw_at lw_m3 121 rfl) rfl
theorem q732 : (Jvm.Cond.instantiable "RoleLoom$Add" (4 : Nat)) ∈ lw_all := lw_g (lw_at lw_m3 177 rfl) rfl
theorem q734 : (Jvm.Cond.instanceMethod ({ cls := "RoleLoom$Add", name := "<init>", desc := "(LRoleLoom;I)V" } : Jvm.MethodName)) ∈ lw_all := lw_g (lw_at lw_m3 179 rfl) rfl
theorem q735 : (Jvm.Cond.code ({ cls := "RoleLoom$Add", name := "<init>", desc := "(LRoleLoom;I)V" } : Jvm.MethodName) prog_3_method_1_code (3 : Nat) (Option.none : Option Jvm.ClassFile.FieldType)) ∈ lw_all := lw_g (lw_at lw_m3 180 rfl) rfl
theorem q736 : (Jvm.Cond.methodLink "RoleLoom$Add" (7 : Nat) ({ cls := "RoleLoom$Act", name := "<init>", desc := "(LRoleLoom;II)V" } : Jvm.MethodName)) ∈ lw_all := lw_g (lw_at lw_m3 181 rfl) rfl
theorem q737 : (Jvm.Cond.fieldLink "RoleLoom$Add" (1 : Nat) "RoleLoom$Add" "this$0" "LRoleLoom;") ∈ lw_all := lw_g (lw_at lw_m3 182 rfl) rfl
theorem q738 : (Jvm.Cond.laysFinal "RoleLoom$Add" "RoleLoom$Add" "this$0" "LRoleLoom;") ∈ lw_all := lw_g (lw_at lw_m3 183 rfl) rfl
theorem q739 : (Jvm.Cond.soleField "RoleLoom$Add" "this$0") ∈ lw_all := lw_g (lw_at lw_m3 184 rfl) rfl
theorem q740 : (Jvm.Cond.laysFinal "RoleLoom$Add" "RoleLoom$Act" "a" "I") ∈ lw_all := lw_g (lw_at lw_m3 185 rfl) rfl
theorem q741 : (Jvm.Cond.laysFinal "RoleLoom$Add" "RoleLoom$Act" "b" "I") ∈ lw_all := lw_g (lw_at lw_m3 186 rfl) rfl
theorem q742 : (Jvm.Cond.laysFinal "RoleLoom$Add" "RoleLoom$Act" "this$0" "LRoleLoom;") ∈ lw_all := lw_g (lw_at lw_m3 187 rfl) rfl
theorem q743 : (Jvm.Cond.superclass "RoleLoom$Add" "RoleLoom$Act") ∈ lw_all := lw_g (lw_at lw_m3 188 rfl) rfl
theorem q967 : (Jvm.Cond.castable "RoleLoom$Add" "RoleLoom$Does") ∈ lw_tbl := lw_at lw_m4 172 rfl
theorem q968 : (Jvm.Cond.selects "RoleLoom$Add" ({ cls := "RoleLoom$Does", name := "fits", desc := "(LRoleLoom$Part;)Z" } : Jvm.MethodName) ({ cls := "RoleLoom$Add", name := "fits", desc := "(LRoleLoom$Part;)Z" } : Jvm.MethodName)) ∈ lw_all := lw_g (lw_at lw_m4 173 rfl) rfl
theorem q969 : (Jvm.Cond.unhidden "RoleLoom$Add" "fits" "(LRoleLoom$Part;)Z") ∈ lw_tbl := lw_at lw_m4 174 rfl
theorem q970 : (Jvm.Cond.instanceMethod ({ cls := "RoleLoom$Add", name := "fits", desc := "(LRoleLoom$Part;)Z" } : Jvm.MethodName)) ∈ lw_all := lw_g (lw_at lw_m4 175 rfl) rfl
theorem q971 : (Jvm.Cond.publicMethod ({ cls := "RoleLoom$Add", name := "fits", desc := "(LRoleLoom$Part;)Z" } : Jvm.MethodName)) ∈ lw_tbl := lw_at lw_m4 176 rfl
theorem q972 : (Jvm.Cond.code ({ cls := "RoleLoom$Add", name := "fits", desc := "(LRoleLoom$Part;)Z" } : Jvm.MethodName) prog_3_method_3_code (2 : Nat) (Option.some Jvm.ClassFile.FieldType.boolean)) ∈ lw_all := lw_g (lw_at lw_m4 177 rfl) rfl
theorem q973 : (Jvm.Cond.methodLinkNest "RoleLoom$Add" (17 : Nat) ({ cls := "RoleLoom", name := "isNumber", desc := "(I)Z" } : Jvm.MethodName) "RoleLoom") ∈ lw_tbl := lw_at lw_m4 178 rfl
theorem q1291 : (Jvm.Cond.selects "RoleLoom$Add" ({ cls := "RoleLoom$Does", name := "act", desc := "(LRoleLoom$Frame;J)J" } : Jvm.MethodName) ({ cls := "RoleLoom$Add", name := "act", desc := "(LRoleLoom$Frame;J)J" } : Jvm.MethodName)) ∈ lw_all := lw_g (lw_at lw_m6 16 rfl) rfl
theorem q1292 : (Jvm.Cond.instanceMethod ({ cls := "RoleLoom$Add", name := "act", desc := "(LRoleLoom$Frame;J)J" } : Jvm.MethodName)) ∈ lw_all := lw_g (lw_at lw_m6 17 rfl) rfl
theorem q1293 : (Jvm.Cond.code ({ cls := "RoleLoom$Add", name := "act", desc := "(LRoleLoom$Frame;J)J" } : Jvm.MethodName) prog_3_method_2_code (4 : Nat) (Option.some Jvm.ClassFile.FieldType.long)) ∈ lw_all := lw_g (lw_at lw_m6 18 rfl) rfl
theorem q2050 : (Jvm.Cond.castable "RoleLoom$Add" "RoleLoom$Act") ∈ lw_tbl := lw_at lw_m9 55 rfl
theorem q2080 : (Jvm.Cond.castable "RoleLoom$Add" "java/lang/Object") ∈ lw_tbl := lw_at lw_m9 85 rfl
theorem in_X10 : ∀ w ∈ wsX100, w ∈ lw_all := lw_in wsX100 [740, 741, 742, 738] (by decide +kernel) (by decide +kernel)
/-! RoleLoom$Times -/
set_option maxRecDepth 100000
def RX11 : String := "RoleLoom$Times"
def TX11 : u_T := fun k => match k with
  | 0 => ("RoleLoom$Act", "a", "I", true)
  | 1 => ("RoleLoom$Act", "b", "I", true)
  | 2 => ("RoleLoom$Act", "this$0", "LRoleLoom;", true)
  | 3 => ("RoleLoom$Add", "this$0", "LRoleLoom;", true)
  | _ => ("RoleLoom$Times", "this$0", "LRoleLoom;", true)
def tyX11 : Nat → FieldType := fun k => match k with
  | 0 => .int
  | 1 => .int
  | 2 => .object "RoleLoom"
  | 3 => .object "RoleLoom"
  | _ => .object "RoleLoom"
abbrev wsX110 : List Cond := u_ws RX11 TX11 5
-- two fields of one name: no nmX11
theorem tyX11_ok : ∀ k, k < 5 → parseFieldDescriptor (TX11 k).2.2.1 = some (tyX11 k) := by decide +kernel
abbrev cX11_init : ByteArray := prog_30_method_1_code
def yX11_init : MethodName := ⟨RX11, "<init>", "(LRoleLoom;I)V"⟩
def dkwX11_init_0 : List UInt8 := [42, 43, 181, 0, 1, 42, 43, 28, 183, 0, 7, 177]
abbrev dktX11_init_0 : List UInt8 := dkwX11_init_0 ++ []
theorem dksX11_init_0 : cX11_init.data.toList.drop 0 = dktX11_init_0 := by decide +kernel
theorem dX11_init_0 : decode cX11_init 0 = .ok (.aload_n 0, 1) := dk_42 (dk_at dksX11_init_0 0 rfl rfl)
theorem dX11_init_1 : decode cX11_init 1 = .ok (.aload_n 1, 1) := dk_43 (dk_at dksX11_init_0 1 rfl rfl)
theorem dX11_init_2 : decode cX11_init 2 = .ok (.putfield 1, 3) := dk_181 0 1 (dk_at dksX11_init_0 2 rfl rfl)
theorem dX11_init_5 : decode cX11_init 5 = .ok (.aload_n 0, 1) := dk_42 (dk_at dksX11_init_0 5 rfl rfl)
theorem dX11_init_6 : decode cX11_init 6 = .ok (.aload_n 1, 1) := dk_43 (dk_at dksX11_init_0 6 rfl rfl)
theorem dX11_init_7 : decode cX11_init 7 = .ok (.iload_n 2, 1) := dk_28 (dk_at dksX11_init_0 7 rfl rfl)
theorem dX11_init_8 : decode cX11_init 8 = .ok (.invokespecial 7, 3) := dk_183 0 7 (dk_at dksX11_init_0 8 rfl rfl)
theorem dX11_init_11 : decode cX11_init 11 = .ok (.return_, 1) := dk_177 (dk_at dksX11_init_0 11 rfl rfl)
abbrev cX11_act : ByteArray := prog_30_method_2_code
def yX11_act : MethodName := ⟨RX11, "act", "(LRoleLoom$Frame;J)J"⟩
def dkwX11_act_0 : List UInt8 := [32, 42, 180, 0, 13, 133, 105, 173]
abbrev dktX11_act_0 : List UInt8 := dkwX11_act_0 ++ []
theorem dksX11_act_0 : cX11_act.data.toList.drop 0 = dktX11_act_0 := by decide +kernel
theorem dX11_act_0 : decode cX11_act 0 = .ok (.lload_n 2, 1) := dk_32 (dk_at dksX11_act_0 0 rfl rfl)
theorem dX11_act_1 : decode cX11_act 1 = .ok (.aload_n 0, 1) := dk_42 (dk_at dksX11_act_0 1 rfl rfl)
theorem dX11_act_2 : decode cX11_act 2 = .ok (.getfield 13, 3) := dk_180 0 13 (dk_at dksX11_act_0 2 rfl rfl)
theorem dX11_act_5 : decode cX11_act 5 = .ok (.i2l, 1) := dk_133 (dk_at dksX11_act_0 5 rfl rfl)
theorem dX11_act_6 : decode cX11_act 6 = .ok (.lmul, 1) := dk_105 (dk_at dksX11_act_0 6 rfl rfl)
theorem dX11_act_7 : decode cX11_act 7 = .ok (.lreturn, 1) := dk_173 (dk_at dksX11_act_0 7 rfl rfl)
theorem q98 : (Jvm.Cond.initialized "RoleLoom$Times") ∈ lw_all := lw_g (lw_at lw_m1 23 rfl) rfl
theorem q527 : (Jvm.Cond.selects "RoleLoom$Times" ({ cls := "java/lang/Object", name := "getClass", desc := "()Ljava/lang/Class;" } : Jvm.MethodName) ({ cls := "java/lang/Object", name := "getClass", desc := "()Ljava/lang/Class;" } : Jvm.MethodName)) ∈ lw_all := lw_g (lw_at lw_m2 212 rfl) rfl
theorem q610 : (Jvm.Cond.selects "RoleLoom$Times" ({ cls := "java/lang/Object", name := "equals", desc := "(Ljava/lang/Object;)Z" } : Jvm.MethodName) ({ cls := "java/lang/Object", name := "equals", desc := "(Ljava/lang/Object;)Z" } : Jvm.MethodName)) ∈ lw_all := lw_g (lw_at lw_m3 55 rfl) rfl
theorem q677 : (Jvm.Cond.fieldLink "RoleLoom$Times" (13 : Nat) "RoleLoom$Times" "a" "I") ∈ lw_all := lw_g (lw_at lw_m3 122 rfl) rfl
theorem q678 : (Jvm.Cond.sameField "RoleLoom$Times" "RoleLoom$Act" "a" "I") ∈ lw_all := lw_g (lw_at lw_m3 123 rfl) rfl
theorem q745 : (Jvm.Cond.instantiable "RoleLoom$Times" (5 : Nat)) ∈ lw_all := lw_g (lw_at lw_m3 190 rfl) rfl
theorem q747 : (Jvm.Cond.instanceMethod ({ cls := "RoleLoom$Times", name := "<init>", desc := "(LRoleLoom;I)V" } : Jvm.MethodName)) ∈ lw_all := lw_g (lw_at lw_m3 192 rfl) rfl
theorem q748 : (Jvm.Cond.code ({ cls := "RoleLoom$Times", name := "<init>", desc := "(LRoleLoom;I)V" } : Jvm.MethodName) prog_30_method_1_code (3 : Nat) (Option.none : Option Jvm.ClassFile.FieldType)) ∈ lw_all := lw_g (lw_at lw_m3 193 rfl) rfl
theorem q749 : (Jvm.Cond.methodLink "RoleLoom$Times" (7 : Nat) ({ cls := "RoleLoom$Add", name := "<init>", desc := "(LRoleLoom;I)V" } : Jvm.MethodName)) ∈ lw_all := lw_g (lw_at lw_m3 194 rfl) rfl
theorem q750 : (Jvm.Cond.fieldLink "RoleLoom$Times" (1 : Nat) "RoleLoom$Times" "this$0" "LRoleLoom;") ∈ lw_all := lw_g (lw_at lw_m3 195 rfl) rfl
theorem q751 : (Jvm.Cond.laysFinal "RoleLoom$Times" "RoleLoom$Times" "this$0" "LRoleLoom;") ∈ lw_all := lw_g (lw_at lw_m3 196 rfl) rfl
theorem q752 : (Jvm.Cond.soleField "RoleLoom$Times" "this$0") ∈ lw_all := lw_g (lw_at lw_m3 197 rfl) rfl
theorem q753 : (Jvm.Cond.laysFinal "RoleLoom$Times" "RoleLoom$Add" "this$0" "LRoleLoom;") ∈ lw_all := lw_g (lw_at lw_m3 198 rfl) rfl
theorem q754 : (Jvm.Cond.laysFinal "RoleLoom$Times" "RoleLoom$Act" "a" "I") ∈ lw_all := lw_g (lw_at lw_m3 199 rfl) rfl
theorem q755 : (Jvm.Cond.laysFinal "RoleLoom$Times" "RoleLoom$Act" "b" "I") ∈ lw_all := lw_g (lw_at lw_m3 200 rfl) rfl
theorem q756 : (Jvm.Cond.laysFinal "RoleLoom$Times" "RoleLoom$Act" "this$0" "LRoleLoom;") ∈ lw_all := lw_g (lw_at lw_m3 201 rfl) rfl
theorem q757 : (Jvm.Cond.superclass "RoleLoom$Times" "RoleLoom$Add") ∈ lw_all := lw_g (lw_at lw_m3 202 rfl) rfl
theorem q1072 : (Jvm.Cond.castable "RoleLoom$Times" "RoleLoom$Does") ∈ lw_tbl := lw_at lw_m5 37 rfl
theorem q1073 : (Jvm.Cond.selects "RoleLoom$Times" ({ cls := "RoleLoom$Does", name := "fits", desc := "(LRoleLoom$Part;)Z" } : Jvm.MethodName) ({ cls := "RoleLoom$Add", name := "fits", desc := "(LRoleLoom$Part;)Z" } : Jvm.MethodName)) ∈ lw_all := lw_g (lw_at lw_m5 38 rfl) rfl
theorem q1074 : (Jvm.Cond.unhidden "RoleLoom$Times" "fits" "(LRoleLoom$Part;)Z") ∈ lw_tbl := lw_at lw_m5 39 rfl
theorem q1394 : (Jvm.Cond.selects "RoleLoom$Times" ({ cls := "RoleLoom$Does", name := "act", desc := "(LRoleLoom$Frame;J)J" } : Jvm.MethodName) ({ cls := "RoleLoom$Times", name := "act", desc := "(LRoleLoom$Frame;J)J" } : Jvm.MethodName)) ∈ lw_all := lw_g (lw_at lw_m6 119 rfl) rfl
theorem q1395 : (Jvm.Cond.instanceMethod ({ cls := "RoleLoom$Times", name := "act", desc := "(LRoleLoom$Frame;J)J" } : Jvm.MethodName)) ∈ lw_all := lw_g (lw_at lw_m6 120 rfl) rfl
theorem q1396 : (Jvm.Cond.code ({ cls := "RoleLoom$Times", name := "act", desc := "(LRoleLoom$Frame;J)J" } : Jvm.MethodName) prog_30_method_2_code (4 : Nat) (Option.some Jvm.ClassFile.FieldType.long)) ∈ lw_all := lw_g (lw_at lw_m6 121 rfl) rfl
theorem q2068 : (Jvm.Cond.castable "RoleLoom$Times" "RoleLoom$Act") ∈ lw_tbl := lw_at lw_m9 73 rfl
theorem q2081 : (Jvm.Cond.castable "RoleLoom$Times" "java/lang/Object") ∈ lw_tbl := lw_at lw_m9 86 rfl
theorem in_X11 : ∀ w ∈ wsX110, w ∈ lw_all := lw_in wsX110 [754, 755, 756, 753, 751] (by decide +kernel) (by decide +kernel)
/-! RoleLoom$Get -/
set_option maxRecDepth 100000
def RX12 : String := "RoleLoom$Get"
def TX12 : u_T := fun k => match k with
  | 0 => ("RoleLoom$Act", "a", "I", true)
  | 1 => ("RoleLoom$Act", "b", "I", true)
  | 2 => ("RoleLoom$Act", "this$0", "LRoleLoom;", true)
  | _ => ("RoleLoom$Get", "this$0", "LRoleLoom;", true)
def tyX12 : Nat → FieldType := fun k => match k with
  | 0 => .int
  | 1 => .int
  | 2 => .object "RoleLoom"
  | _ => .object "RoleLoom"
abbrev wsX120 : List Cond := u_ws RX12 TX12 4
-- two fields of one name: no nmX12
theorem tyX12_ok : ∀ k, k < 4 → parseFieldDescriptor (TX12 k).2.2.1 = some (tyX12 k) := by decide +kernel
abbrev cX12_init : ByteArray := prog_13_method_1_code
def yX12_init : MethodName := ⟨RX12, "<init>", "(LRoleLoom;I)V"⟩
def dkwX12_init_0 : List UInt8 := [42, 43, 181, 0, 1, 42, 43, 28, 3, 183, 0, 7, 177]
abbrev dktX12_init_0 : List UInt8 := dkwX12_init_0 ++ []
theorem dksX12_init_0 : cX12_init.data.toList.drop 0 = dktX12_init_0 := by decide +kernel
theorem dX12_init_0 : decode cX12_init 0 = .ok (.aload_n 0, 1) := dk_42 (dk_at dksX12_init_0 0 rfl rfl)
theorem dX12_init_1 : decode cX12_init 1 = .ok (.aload_n 1, 1) := dk_43 (dk_at dksX12_init_0 1 rfl rfl)
theorem dX12_init_2 : decode cX12_init 2 = .ok (.putfield 1, 3) := dk_181 0 1 (dk_at dksX12_init_0 2 rfl rfl)
theorem dX12_init_5 : decode cX12_init 5 = .ok (.aload_n 0, 1) := dk_42 (dk_at dksX12_init_0 5 rfl rfl)
theorem dX12_init_6 : decode cX12_init 6 = .ok (.aload_n 1, 1) := dk_43 (dk_at dksX12_init_0 6 rfl rfl)
theorem dX12_init_7 : decode cX12_init 7 = .ok (.iload_n 2, 1) := dk_28 (dk_at dksX12_init_0 7 rfl rfl)
theorem dX12_init_8 : decode cX12_init 8 = .ok (.iconst 0, 1) := dk_3 (dk_at dksX12_init_0 8 rfl rfl)
theorem dX12_init_9 : decode cX12_init 9 = .ok (.invokespecial 7, 3) := dk_183 0 7 (dk_at dksX12_init_0 9 rfl rfl)
theorem dX12_init_12 : decode cX12_init 12 = .ok (.return_, 1) := dk_177 (dk_at dksX12_init_0 12 rfl rfl)
abbrev cX12_fits : ByteArray := prog_13_method_3_code
def yX12_fits : MethodName := ⟨RX12, "fits", "(LRoleLoom$Part;)Z"⟩
def dkwX12_fits_0 : List UInt8 := [42, 180, 0, 25, 3, 43, 180, 0, 29, 4, 100, 184, 0, 33, 172]
abbrev dktX12_fits_0 : List UInt8 := dkwX12_fits_0 ++ []
theorem dksX12_fits_0 : cX12_fits.data.toList.drop 0 = dktX12_fits_0 := by decide +kernel
theorem dX12_fits_0 : decode cX12_fits 0 = .ok (.aload_n 0, 1) := dk_42 (dk_at dksX12_fits_0 0 rfl rfl)
theorem dX12_fits_1 : decode cX12_fits 1 = .ok (.getfield 25, 3) := dk_180 0 25 (dk_at dksX12_fits_0 1 rfl rfl)
theorem dX12_fits_4 : decode cX12_fits 4 = .ok (.iconst 0, 1) := dk_3 (dk_at dksX12_fits_0 4 rfl rfl)
theorem dX12_fits_5 : decode cX12_fits 5 = .ok (.aload_n 1, 1) := dk_43 (dk_at dksX12_fits_0 5 rfl rfl)
theorem dX12_fits_6 : decode cX12_fits 6 = .ok (.getfield 29, 3) := dk_180 0 29 (dk_at dksX12_fits_0 6 rfl rfl)
theorem dX12_fits_9 : decode cX12_fits 9 = .ok (.iconst 1, 1) := dk_4 (dk_at dksX12_fits_0 9 rfl rfl)
theorem dX12_fits_10 : decode cX12_fits 10 = .ok (.isub, 1) := dk_100 (dk_at dksX12_fits_0 10 rfl rfl)
theorem dX12_fits_11 : decode cX12_fits 11 = .ok (.invokestatic 33, 3) := dk_184 0 33 (dk_at dksX12_fits_0 11 rfl rfl)
theorem dX12_fits_14 : decode cX12_fits 14 = .ok (.ireturn, 1) := dk_172 (dk_at dksX12_fits_0 14 rfl rfl)
abbrev cX12_act : ByteArray := prog_13_method_2_code
def yX12_act : MethodName := ⟨RX12, "act", "(LRoleLoom$Frame;J)J"⟩
def dkwX12_act_0 : List UInt8 := [43, 180, 0, 13, 180, 0, 19, 42, 180, 0, 25, 47, 173]
abbrev dktX12_act_0 : List UInt8 := dkwX12_act_0 ++ []
theorem dksX12_act_0 : cX12_act.data.toList.drop 0 = dktX12_act_0 := by decide +kernel
theorem dX12_act_0 : decode cX12_act 0 = .ok (.aload_n 1, 1) := dk_43 (dk_at dksX12_act_0 0 rfl rfl)
theorem dX12_act_1 : decode cX12_act 1 = .ok (.getfield 13, 3) := dk_180 0 13 (dk_at dksX12_act_0 1 rfl rfl)
theorem dX12_act_4 : decode cX12_act 4 = .ok (.getfield 19, 3) := dk_180 0 19 (dk_at dksX12_act_0 4 rfl rfl)
theorem dX12_act_7 : decode cX12_act 7 = .ok (.aload_n 0, 1) := dk_42 (dk_at dksX12_act_0 7 rfl rfl)
theorem dX12_act_8 : decode cX12_act 8 = .ok (.getfield 25, 3) := dk_180 0 25 (dk_at dksX12_act_0 8 rfl rfl)
theorem dX12_act_11 : decode cX12_act 11 = .ok (.laload, 1) := dk_47 (dk_at dksX12_act_0 11 rfl rfl)
theorem dX12_act_12 : decode cX12_act 12 = .ok (.lreturn, 1) := dk_173 (dk_at dksX12_act_0 12 rfl rfl)
theorem q99 : (Jvm.Cond.initialized "RoleLoom$Get") ∈ lw_all := lw_g (lw_at lw_m1 24 rfl) rfl
theorem q254 : (Jvm.Cond.fieldLinkNest "RoleLoom$Get" (13 : Nat) "RoleLoom$Frame" "state" "LRoleLoom$State;" "RoleLoom") ∈ lw_tbl := lw_at lw_m1 179 rfl
theorem q429 : (Jvm.Cond.fieldLinkNest "RoleLoom$Get" (29 : Nat) "RoleLoom$Part" "cells" "I" "RoleLoom") ∈ lw_tbl := lw_at lw_m2 114 rfl
theorem q510 : (Jvm.Cond.selects "RoleLoom$Get" ({ cls := "java/lang/Object", name := "getClass", desc := "()Ljava/lang/Class;" } : Jvm.MethodName) ({ cls := "java/lang/Object", name := "getClass", desc := "()Ljava/lang/Class;" } : Jvm.MethodName)) ∈ lw_all := lw_g (lw_at lw_m2 195 rfl) rfl
theorem q593 : (Jvm.Cond.selects "RoleLoom$Get" ({ cls := "java/lang/Object", name := "equals", desc := "(Ljava/lang/Object;)Z" } : Jvm.MethodName) ({ cls := "java/lang/Object", name := "equals", desc := "(Ljava/lang/Object;)Z" } : Jvm.MethodName)) ∈ lw_all := lw_g (lw_at lw_m3 38 rfl) rfl
theorem q689 : (Jvm.Cond.fieldLink "RoleLoom$Get" (25 : Nat) "RoleLoom$Get" "a" "I") ∈ lw_all := lw_g (lw_at lw_m3 134 rfl) rfl
theorem q690 : (Jvm.Cond.sameField "RoleLoom$Get" "RoleLoom$Act" "a" "I") ∈ lw_all := lw_g (lw_at lw_m3 135 rfl) rfl
theorem q759 : (Jvm.Cond.instantiable "RoleLoom$Get" (4 : Nat)) ∈ lw_all := lw_g (lw_at lw_m3 204 rfl) rfl
theorem q761 : (Jvm.Cond.instanceMethod ({ cls := "RoleLoom$Get", name := "<init>", desc := "(LRoleLoom;I)V" } : Jvm.MethodName)) ∈ lw_all := lw_g (lw_at lw_m3 206 rfl) rfl
theorem q762 : (Jvm.Cond.code ({ cls := "RoleLoom$Get", name := "<init>", desc := "(LRoleLoom;I)V" } : Jvm.MethodName) prog_13_method_1_code (3 : Nat) (Option.none : Option Jvm.ClassFile.FieldType)) ∈ lw_all := lw_g (lw_at lw_m3 207 rfl) rfl
theorem q763 : (Jvm.Cond.methodLink "RoleLoom$Get" (7 : Nat) ({ cls := "RoleLoom$Act", name := "<init>", desc := "(LRoleLoom;II)V" } : Jvm.MethodName)) ∈ lw_all := lw_g (lw_at lw_m3 208 rfl) rfl
theorem q764 : (Jvm.Cond.fieldLink "RoleLoom$Get" (1 : Nat) "RoleLoom$Get" "this$0" "LRoleLoom;") ∈ lw_all := lw_g (lw_at lw_m3 209 rfl) rfl
theorem q765 : (Jvm.Cond.laysFinal "RoleLoom$Get" "RoleLoom$Get" "this$0" "LRoleLoom;") ∈ lw_all := lw_g (lw_at lw_m3 210 rfl) rfl
theorem q766 : (Jvm.Cond.soleField "RoleLoom$Get" "this$0") ∈ lw_all := lw_g (lw_at lw_m3 211 rfl) rfl
theorem q767 : (Jvm.Cond.laysFinal "RoleLoom$Get" "RoleLoom$Act" "a" "I") ∈ lw_all := lw_g (lw_at lw_m3 212 rfl) rfl
theorem q768 : (Jvm.Cond.laysFinal "RoleLoom$Get" "RoleLoom$Act" "b" "I") ∈ lw_all := lw_g (lw_at lw_m3 213 rfl) rfl
theorem q769 : (Jvm.Cond.laysFinal "RoleLoom$Get" "RoleLoom$Act" "this$0" "LRoleLoom;") ∈ lw_all := lw_g (lw_at lw_m3 214 rfl) rfl
theorem q770 : (Jvm.Cond.superclass "RoleLoom$Get" "RoleLoom$Act") ∈ lw_all := lw_g (lw_at lw_m3 215 rfl) rfl
theorem q1020 : (Jvm.Cond.castable "RoleLoom$Get" "RoleLoom$Does") ∈ lw_tbl := lw_at lw_m4 225 rfl
theorem q1021 : (Jvm.Cond.selects "RoleLoom$Get" ({ cls := "RoleLoom$Does", name := "fits", desc := "(LRoleLoom$Part;)Z" } : Jvm.MethodName) ({ cls := "RoleLoom$Get", name := "fits", desc := "(LRoleLoom$Part;)Z" } : Jvm.MethodName)) ∈ lw_all := lw_g (lw_at lw_m4 226 rfl) rfl
theorem q1022 : (Jvm.Cond.unhidden "RoleLoom$Get" "fits" "(LRoleLoom$Part;)Z") ∈ lw_tbl := lw_at lw_m4 227 rfl
theorem q1023 : (Jvm.Cond.instanceMethod ({ cls := "RoleLoom$Get", name := "fits", desc := "(LRoleLoom$Part;)Z" } : Jvm.MethodName)) ∈ lw_all := lw_g (lw_at lw_m4 228 rfl) rfl
theorem q1024 : (Jvm.Cond.publicMethod ({ cls := "RoleLoom$Get", name := "fits", desc := "(LRoleLoom$Part;)Z" } : Jvm.MethodName)) ∈ lw_tbl := lw_at lw_m4 229 rfl
theorem q1025 : (Jvm.Cond.code ({ cls := "RoleLoom$Get", name := "fits", desc := "(LRoleLoom$Part;)Z" } : Jvm.MethodName) prog_13_method_3_code (2 : Nat) (Option.some Jvm.ClassFile.FieldType.boolean)) ∈ lw_all := lw_g (lw_at lw_m4 230 rfl) rfl
theorem q1026 : (Jvm.Cond.methodLinkNest "RoleLoom$Get" (33 : Nat) ({ cls := "RoleLoom", name := "in", desc := "(III)Z" } : Jvm.MethodName) "RoleLoom") ∈ lw_tbl := lw_at lw_m4 231 rfl
theorem q1254 : (Jvm.Cond.fieldLinkNest "RoleLoom$Get" (19 : Nat) "RoleLoom$State" "cells" "[J" "RoleLoom") ∈ lw_tbl := lw_at lw_m5 219 rfl
theorem q1350 : (Jvm.Cond.selects "RoleLoom$Get" ({ cls := "RoleLoom$Does", name := "act", desc := "(LRoleLoom$Frame;J)J" } : Jvm.MethodName) ({ cls := "RoleLoom$Get", name := "act", desc := "(LRoleLoom$Frame;J)J" } : Jvm.MethodName)) ∈ lw_all := lw_g (lw_at lw_m6 75 rfl) rfl
theorem q1351 : (Jvm.Cond.instanceMethod ({ cls := "RoleLoom$Get", name := "act", desc := "(LRoleLoom$Frame;J)J" } : Jvm.MethodName)) ∈ lw_all := lw_g (lw_at lw_m6 76 rfl) rfl
theorem q1352 : (Jvm.Cond.code ({ cls := "RoleLoom$Get", name := "act", desc := "(LRoleLoom$Frame;J)J" } : Jvm.MethodName) prog_13_method_2_code (4 : Nat) (Option.some Jvm.ClassFile.FieldType.long)) ∈ lw_all := lw_g (lw_at lw_m6 77 rfl) rfl
theorem q2049 : (Jvm.Cond.sameMethod "RoleLoom$Get" "RoleLoom$Get" "act" "(LRoleLoom$Frame;J)J") ∈ lw_all := lw_g (lw_at lw_m9 54 rfl) rfl
theorem q2057 : (Jvm.Cond.castable "RoleLoom$Get" "RoleLoom$Act") ∈ lw_tbl := lw_at lw_m9 62 rfl
theorem q2082 : (Jvm.Cond.castable "RoleLoom$Get" "java/lang/Object") ∈ lw_tbl := lw_at lw_m9 87 rfl
theorem in_X12 : ∀ w ∈ wsX120, w ∈ lw_all := lw_in wsX120 [767, 768, 769, 765] (by decide +kernel) (by decide +kernel)
/-! RoleLoom$Set -/
set_option maxRecDepth 100000
def RX13 : String := "RoleLoom$Set"
def TX13 : u_T := fun k => match k with
  | 0 => ("RoleLoom$Act", "a", "I", true)
  | 1 => ("RoleLoom$Act", "b", "I", true)
  | 2 => ("RoleLoom$Act", "this$0", "LRoleLoom;", true)
  | 3 => ("RoleLoom$Get", "this$0", "LRoleLoom;", true)
  | _ => ("RoleLoom$Set", "this$0", "LRoleLoom;", true)
def tyX13 : Nat → FieldType := fun k => match k with
  | 0 => .int
  | 1 => .int
  | 2 => .object "RoleLoom"
  | 3 => .object "RoleLoom"
  | _ => .object "RoleLoom"
abbrev wsX130 : List Cond := u_ws RX13 TX13 5
-- two fields of one name: no nmX13
theorem tyX13_ok : ∀ k, k < 5 → parseFieldDescriptor (TX13 k).2.2.1 = some (tyX13 k) := by decide +kernel
abbrev cX13_init : ByteArray := prog_23_method_1_code
def yX13_init : MethodName := ⟨RX13, "<init>", "(LRoleLoom;I)V"⟩
def dkwX13_init_0 : List UInt8 := [42, 43, 181, 0, 1, 42, 43, 28, 183, 0, 7, 177]
abbrev dktX13_init_0 : List UInt8 := dkwX13_init_0 ++ []
theorem dksX13_init_0 : cX13_init.data.toList.drop 0 = dktX13_init_0 := by decide +kernel
theorem dX13_init_0 : decode cX13_init 0 = .ok (.aload_n 0, 1) := dk_42 (dk_at dksX13_init_0 0 rfl rfl)
theorem dX13_init_1 : decode cX13_init 1 = .ok (.aload_n 1, 1) := dk_43 (dk_at dksX13_init_0 1 rfl rfl)
theorem dX13_init_2 : decode cX13_init 2 = .ok (.putfield 1, 3) := dk_181 0 1 (dk_at dksX13_init_0 2 rfl rfl)
theorem dX13_init_5 : decode cX13_init 5 = .ok (.aload_n 0, 1) := dk_42 (dk_at dksX13_init_0 5 rfl rfl)
theorem dX13_init_6 : decode cX13_init 6 = .ok (.aload_n 1, 1) := dk_43 (dk_at dksX13_init_0 6 rfl rfl)
theorem dX13_init_7 : decode cX13_init 7 = .ok (.iload_n 2, 1) := dk_28 (dk_at dksX13_init_0 7 rfl rfl)
theorem dX13_init_8 : decode cX13_init 8 = .ok (.invokespecial 7, 3) := dk_183 0 7 (dk_at dksX13_init_0 8 rfl rfl)
theorem dX13_init_11 : decode cX13_init 11 = .ok (.return_, 1) := dk_177 (dk_at dksX13_init_0 11 rfl rfl)
abbrev cX13_act : ByteArray := prog_23_method_2_code
def yX13_act : MethodName := ⟨RX13, "act", "(LRoleLoom$Frame;J)J"⟩
def dkwX13_act_0 : List UInt8 := [43, 180, 0, 13, 180, 0, 19, 42, 180, 0, 25, 32, 80, 32, 173]
abbrev dktX13_act_0 : List UInt8 := dkwX13_act_0 ++ []
theorem dksX13_act_0 : cX13_act.data.toList.drop 0 = dktX13_act_0 := by decide +kernel
theorem dX13_act_0 : decode cX13_act 0 = .ok (.aload_n 1, 1) := dk_43 (dk_at dksX13_act_0 0 rfl rfl)
theorem dX13_act_1 : decode cX13_act 1 = .ok (.getfield 13, 3) := dk_180 0 13 (dk_at dksX13_act_0 1 rfl rfl)
theorem dX13_act_4 : decode cX13_act 4 = .ok (.getfield 19, 3) := dk_180 0 19 (dk_at dksX13_act_0 4 rfl rfl)
theorem dX13_act_7 : decode cX13_act 7 = .ok (.aload_n 0, 1) := dk_42 (dk_at dksX13_act_0 7 rfl rfl)
theorem dX13_act_8 : decode cX13_act 8 = .ok (.getfield 25, 3) := dk_180 0 25 (dk_at dksX13_act_0 8 rfl rfl)
theorem dX13_act_11 : decode cX13_act 11 = .ok (.lload_n 2, 1) := dk_32 (dk_at dksX13_act_0 11 rfl rfl)
theorem dX13_act_12 : decode cX13_act 12 = .ok (.lastore, 1) := dk_80 (dk_at dksX13_act_0 12 rfl rfl)
theorem dX13_act_13 : decode cX13_act 13 = .ok (.lload_n 2, 1) := dk_32 (dk_at dksX13_act_0 13 rfl rfl)
theorem dX13_act_14 : decode cX13_act 14 = .ok (.lreturn, 1) := dk_173 (dk_at dksX13_act_0 14 rfl rfl)
theorem q100 : (Jvm.Cond.initialized "RoleLoom$Set") ∈ lw_all := lw_g (lw_at lw_m1 25 rfl) rfl
theorem q256 : (Jvm.Cond.fieldLinkNest "RoleLoom$Set" (13 : Nat) "RoleLoom$Frame" "state" "LRoleLoom$State;" "RoleLoom") ∈ lw_tbl := lw_at lw_m1 181 rfl
theorem q520 : (Jvm.Cond.selects "RoleLoom$Set" ({ cls := "java/lang/Object", name := "getClass", desc := "()Ljava/lang/Class;" } : Jvm.MethodName) ({ cls := "java/lang/Object", name := "getClass", desc := "()Ljava/lang/Class;" } : Jvm.MethodName)) ∈ lw_all := lw_g (lw_at lw_m2 205 rfl) rfl
theorem q603 : (Jvm.Cond.selects "RoleLoom$Set" ({ cls := "java/lang/Object", name := "equals", desc := "(Ljava/lang/Object;)Z" } : Jvm.MethodName) ({ cls := "java/lang/Object", name := "equals", desc := "(Ljava/lang/Object;)Z" } : Jvm.MethodName)) ∈ lw_all := lw_g (lw_at lw_m3 48 rfl) rfl
theorem q691 : (Jvm.Cond.fieldLink "RoleLoom$Set" (25 : Nat) "RoleLoom$Set" "a" "I") ∈ lw_all := lw_g (lw_at lw_m3 136 rfl) rfl
theorem q692 : (Jvm.Cond.sameField "RoleLoom$Set" "RoleLoom$Act" "a" "I") ∈ lw_all := lw_g (lw_at lw_m3 137 rfl) rfl
theorem q772 : (Jvm.Cond.instantiable "RoleLoom$Set" (5 : Nat)) ∈ lw_all := lw_g (lw_at lw_m3 217 rfl) rfl
theorem q774 : (Jvm.Cond.instanceMethod ({ cls := "RoleLoom$Set", name := "<init>", desc := "(LRoleLoom;I)V" } : Jvm.MethodName)) ∈ lw_all := lw_g (lw_at lw_m3 219 rfl) rfl
theorem q775 : (Jvm.Cond.code ({ cls := "RoleLoom$Set", name := "<init>", desc := "(LRoleLoom;I)V" } : Jvm.MethodName) prog_23_method_1_code (3 : Nat) (Option.none : Option Jvm.ClassFile.FieldType)) ∈ lw_all := lw_g (lw_at lw_m3 220 rfl) rfl
theorem q776 : (Jvm.Cond.methodLink "RoleLoom$Set" (7 : Nat) ({ cls := "RoleLoom$Get", name := "<init>", desc := "(LRoleLoom;I)V" } : Jvm.MethodName)) ∈ lw_all := lw_g (lw_at lw_m3 221 rfl) rfl
theorem q777 : (Jvm.Cond.fieldLink "RoleLoom$Set" (1 : Nat) "RoleLoom$Set" "this$0" "LRoleLoom;") ∈ lw_all := lw_g (lw_at lw_m3 222 rfl) rfl
theorem q778 : (Jvm.Cond.laysFinal "RoleLoom$Set" "RoleLoom$Set" "this$0" "LRoleLoom;") ∈ lw_all := lw_g (lw_at lw_m3 223 rfl) rfl
theorem q779 : (Jvm.Cond.soleField "RoleLoom$Set" "this$0") ∈ lw_all := lw_g (lw_at lw_m3 224 rfl) rfl
theorem q780 : (Jvm.Cond.laysFinal "RoleLoom$Set" "RoleLoom$Get" "this$0" "LRoleLoom;") ∈ lw_all := lw_g (lw_at lw_m3 225 rfl) rfl
theorem q781 : (Jvm.Cond.laysFinal "RoleLoom$Set" "RoleLoom$Act" "a" "I") ∈ lw_all := lw_g (lw_at lw_m3 226 rfl) rfl
theorem q782 : (Jvm.Cond.laysFinal "RoleLoom$Set" "RoleLoom$Act" "b" "I") ∈ lw_all := lw_g (lw_at lw_m3 227 rfl) rfl
theorem q783 : (Jvm.Cond.laysFinal "RoleLoom$Set" "RoleLoom$Act" "this$0" "LRoleLoom;") ∈ lw_all := lw_g (lw_at lw_m3 228 rfl) rfl
theorem q784 : (Jvm.Cond.superclass "RoleLoom$Set" "RoleLoom$Get") ∈ lw_all := lw_g (lw_at lw_m3 229 rfl) rfl
theorem q1059 : (Jvm.Cond.castable "RoleLoom$Set" "RoleLoom$Does") ∈ lw_tbl := lw_at lw_m5 24 rfl
theorem q1060 : (Jvm.Cond.selects "RoleLoom$Set" ({ cls := "RoleLoom$Does", name := "fits", desc := "(LRoleLoom$Part;)Z" } : Jvm.MethodName) ({ cls := "RoleLoom$Get", name := "fits", desc := "(LRoleLoom$Part;)Z" } : Jvm.MethodName)) ∈ lw_all := lw_g (lw_at lw_m5 25 rfl) rfl
theorem q1061 : (Jvm.Cond.unhidden "RoleLoom$Set" "fits" "(LRoleLoom$Part;)Z") ∈ lw_tbl := lw_at lw_m5 26 rfl
theorem q1255 : (Jvm.Cond.fieldLinkNest "RoleLoom$Set" (19 : Nat) "RoleLoom$State" "cells" "[J" "RoleLoom") ∈ lw_tbl := lw_at lw_m5 220 rfl
theorem q1382 : (Jvm.Cond.selects "RoleLoom$Set" ({ cls := "RoleLoom$Does", name := "act", desc := "(LRoleLoom$Frame;J)J" } : Jvm.MethodName) ({ cls := "RoleLoom$Set", name := "act", desc := "(LRoleLoom$Frame;J)J" } : Jvm.MethodName)) ∈ lw_all := lw_g (lw_at lw_m6 107 rfl) rfl
theorem q1383 : (Jvm.Cond.instanceMethod ({ cls := "RoleLoom$Set", name := "act", desc := "(LRoleLoom$Frame;J)J" } : Jvm.MethodName)) ∈ lw_all := lw_g (lw_at lw_m6 108 rfl) rfl
theorem q1384 : (Jvm.Cond.code ({ cls := "RoleLoom$Set", name := "act", desc := "(LRoleLoom$Frame;J)J" } : Jvm.MethodName) prog_23_method_2_code (4 : Nat) (Option.some Jvm.ClassFile.FieldType.long)) ∈ lw_all := lw_g (lw_at lw_m6 109 rfl) rfl
theorem q2065 : (Jvm.Cond.castable "RoleLoom$Set" "RoleLoom$Act") ∈ lw_tbl := lw_at lw_m9 70 rfl
theorem q2083 : (Jvm.Cond.castable "RoleLoom$Set" "java/lang/Object") ∈ lw_tbl := lw_at lw_m9 88 rfl
theorem in_X13 : ∀ w ∈ wsX130, w ∈ lw_all := lw_in wsX130 [781, 782, 783, 780, 778] (by decide +kernel) (by decide +kernel)
/-! RoleLoom$Share -/
set_option maxRecDepth 100000
def RX14 : String := "RoleLoom$Share"
def TX14 : u_T := fun k => match k with
  | 0 => ("RoleLoom$Act", "a", "I", true)
  | 1 => ("RoleLoom$Act", "b", "I", true)
  | 2 => ("RoleLoom$Act", "this$0", "LRoleLoom;", true)
  | 3 => ("RoleLoom$Get", "this$0", "LRoleLoom;", true)
  | _ => ("RoleLoom$Share", "this$0", "LRoleLoom;", true)
def tyX14 : Nat → FieldType := fun k => match k with
  | 0 => .int
  | 1 => .int
  | 2 => .object "RoleLoom"
  | 3 => .object "RoleLoom"
  | _ => .object "RoleLoom"
abbrev wsX140 : List Cond := u_ws RX14 TX14 5
-- two fields of one name: no nmX14
theorem tyX14_ok : ∀ k, k < 5 → parseFieldDescriptor (TX14 k).2.2.1 = some (tyX14 k) := by decide +kernel
abbrev cX14_init : ByteArray := prog_24_method_1_code
def yX14_init : MethodName := ⟨RX14, "<init>", "(LRoleLoom;I)V"⟩
def dkwX14_init_0 : List UInt8 := [42, 43, 181, 0, 3, 42, 43, 28, 183, 0, 9, 177]
abbrev dktX14_init_0 : List UInt8 := dkwX14_init_0 ++ []
theorem dksX14_init_0 : cX14_init.data.toList.drop 0 = dktX14_init_0 := by decide +kernel
theorem dX14_init_0 : decode cX14_init 0 = .ok (.aload_n 0, 1) := dk_42 (dk_at dksX14_init_0 0 rfl rfl)
theorem dX14_init_1 : decode cX14_init 1 = .ok (.aload_n 1, 1) := dk_43 (dk_at dksX14_init_0 1 rfl rfl)
theorem dX14_init_2 : decode cX14_init 2 = .ok (.putfield 3, 3) := dk_181 0 3 (dk_at dksX14_init_0 2 rfl rfl)
theorem dX14_init_5 : decode cX14_init 5 = .ok (.aload_n 0, 1) := dk_42 (dk_at dksX14_init_0 5 rfl rfl)
theorem dX14_init_6 : decode cX14_init 6 = .ok (.aload_n 1, 1) := dk_43 (dk_at dksX14_init_0 6 rfl rfl)
theorem dX14_init_7 : decode cX14_init 7 = .ok (.iload_n 2, 1) := dk_28 (dk_at dksX14_init_0 7 rfl rfl)
theorem dX14_init_8 : decode cX14_init 8 = .ok (.invokespecial 9, 3) := dk_183 0 9 (dk_at dksX14_init_0 8 rfl rfl)
theorem dX14_init_11 : decode cX14_init 11 = .ok (.return_, 1) := dk_177 (dk_at dksX14_init_0 11 rfl rfl)
abbrev cX14_act : ByteArray := prog_24_method_2_code
def yX14_act : MethodName := ⟨RX14, "act", "(LRoleLoom$Frame;J)J"⟩
def dkwX14_act_1 : List UInt8 := [182, 0, 19, 191, 32, 22, 4, 109, 173]
abbrev dktX14_act_1 : List UInt8 := dkwX14_act_1 ++ []
def dkwX14_act_0 : List UInt8 := [42, 43, 32, 183, 0, 15, 55, 4, 22, 4, 9, 148, 154, 0, 15, 42, 180, 0, 3, 43, 16, 10, 9]
abbrev dktX14_act_0 : List UInt8 := dkwX14_act_0 ++ dktX14_act_1
theorem dksX14_act_0 : cX14_act.data.toList.drop 0 = dktX14_act_0 := by decide +kernel
theorem dksX14_act_1 : cX14_act.data.toList.drop 23 = dktX14_act_1 := dk_seg dksX14_act_0 23 rfl rfl
theorem dX14_act_0 : decode cX14_act 0 = .ok (.aload_n 0, 1) := dk_42 (dk_at dksX14_act_0 0 rfl rfl)
theorem dX14_act_1 : decode cX14_act 1 = .ok (.aload_n 1, 1) := dk_43 (dk_at dksX14_act_0 1 rfl rfl)
theorem dX14_act_2 : decode cX14_act 2 = .ok (.lload_n 2, 1) := dk_32 (dk_at dksX14_act_0 2 rfl rfl)
theorem dX14_act_3 : decode cX14_act 3 = .ok (.invokespecial 15, 3) := dk_183 0 15 (dk_at dksX14_act_0 3 rfl rfl)
theorem dX14_act_6 : decode cX14_act 6 = .ok (.lstore 4, 2) := dk_55 4 (dk_at dksX14_act_0 6 rfl rfl)
theorem dX14_act_8 : decode cX14_act 8 = .ok (.lload 4, 2) := dk_22 4 (dk_at dksX14_act_0 8 rfl rfl)
theorem dX14_act_10 : decode cX14_act 10 = .ok (.lconst 0, 1) := dk_9 (dk_at dksX14_act_0 10 rfl rfl)
theorem dX14_act_11 : decode cX14_act 11 = .ok (.lcmp, 1) := dk_148 (dk_at dksX14_act_0 11 rfl rfl)
theorem dX14_act_12 : decode cX14_act 12 = .ok (.ifCond .ne 15, 3) := dk_154 0 15 (dk_at dksX14_act_0 12 rfl rfl)
theorem dX14_act_15 : decode cX14_act 15 = .ok (.aload_n 0, 1) := dk_42 (dk_at dksX14_act_0 15 rfl rfl)
theorem dX14_act_16 : decode cX14_act 16 = .ok (.getfield 3, 3) := dk_180 0 3 (dk_at dksX14_act_0 16 rfl rfl)
theorem dX14_act_19 : decode cX14_act 19 = .ok (.aload_n 1, 1) := dk_43 (dk_at dksX14_act_0 19 rfl rfl)
theorem dX14_act_20 : decode cX14_act 20 = .ok (.bipush 10, 2) := dk_16 10 (dk_at dksX14_act_0 20 rfl rfl)
theorem dX14_act_22 : decode cX14_act 22 = .ok (.lconst 0, 1) := dk_9 (dk_at dksX14_act_0 22 rfl rfl)
theorem dX14_act_23 : decode cX14_act 23 = .ok (.invokevirtual 19, 3) := dk_182 0 19 (dk_at dksX14_act_1 0 rfl rfl)
theorem dX14_act_26 : decode cX14_act 26 = .ok (.athrow, 1) := dk_191 (dk_at dksX14_act_1 3 rfl rfl)
theorem dX14_act_27 : decode cX14_act 27 = .ok (.lload_n 2, 1) := dk_32 (dk_at dksX14_act_1 4 rfl rfl)
theorem dX14_act_28 : decode cX14_act 28 = .ok (.lload 4, 2) := dk_22 4 (dk_at dksX14_act_1 5 rfl rfl)
theorem dX14_act_30 : decode cX14_act 30 = .ok (.ldiv, 1) := dk_109 (dk_at dksX14_act_1 7 rfl rfl)
theorem dX14_act_31 : decode cX14_act 31 = .ok (.lreturn, 1) := dk_173 (dk_at dksX14_act_1 8 rfl rfl)
theorem q101 : (Jvm.Cond.initialized "RoleLoom$Share") ∈ lw_all := lw_g (lw_at lw_m1 26 rfl) rfl
theorem q521 : (Jvm.Cond.selects "RoleLoom$Share" ({ cls := "java/lang/Object", name := "getClass", desc := "()Ljava/lang/Class;" } : Jvm.MethodName) ({ cls := "java/lang/Object", name := "getClass", desc := "()Ljava/lang/Class;" } : Jvm.MethodName)) ∈ lw_all := lw_g (lw_at lw_m2 206 rfl) rfl
theorem q604 : (Jvm.Cond.selects "RoleLoom$Share" ({ cls := "java/lang/Object", name := "equals", desc := "(Ljava/lang/Object;)Z" } : Jvm.MethodName) ({ cls := "java/lang/Object", name := "equals", desc := "(Ljava/lang/Object;)Z" } : Jvm.MethodName)) ∈ lw_all := lw_g (lw_at lw_m3 49 rfl) rfl
theorem q786 : (Jvm.Cond.instantiable "RoleLoom$Share" (5 : Nat)) ∈ lw_all := lw_g (lw_at lw_m3 231 rfl) rfl
theorem q788 : (Jvm.Cond.instanceMethod ({ cls := "RoleLoom$Share", name := "<init>", desc := "(LRoleLoom;I)V" } : Jvm.MethodName)) ∈ lw_all := lw_g (lw_at lw_m3 233 rfl) rfl
theorem q789 : (Jvm.Cond.code ({ cls := "RoleLoom$Share", name := "<init>", desc := "(LRoleLoom;I)V" } : Jvm.MethodName) prog_24_method_1_code (3 : Nat) (Option.none : Option Jvm.ClassFile.FieldType)) ∈ lw_all := lw_g (lw_at lw_m3 234 rfl) rfl
theorem q790 : (Jvm.Cond.methodLink "RoleLoom$Share" (9 : Nat) ({ cls := "RoleLoom$Get", name := "<init>", desc := "(LRoleLoom;I)V" } : Jvm.MethodName)) ∈ lw_all := lw_g (lw_at lw_m3 235 rfl) rfl
theorem q791 : (Jvm.Cond.fieldLink "RoleLoom$Share" (3 : Nat) "RoleLoom$Share" "this$0" "LRoleLoom;") ∈ lw_all := lw_g (lw_at lw_m3 236 rfl) rfl
theorem q792 : (Jvm.Cond.laysFinal "RoleLoom$Share" "RoleLoom$Share" "this$0" "LRoleLoom;") ∈ lw_all := lw_g (lw_at lw_m3 237 rfl) rfl
theorem q793 : (Jvm.Cond.soleField "RoleLoom$Share" "this$0") ∈ lw_all := lw_g (lw_at lw_m3 238 rfl) rfl
theorem q794 : (Jvm.Cond.laysFinal "RoleLoom$Share" "RoleLoom$Get" "this$0" "LRoleLoom;") ∈ lw_all := lw_g (lw_at lw_m3 239 rfl) rfl
theorem q795 : (Jvm.Cond.laysFinal "RoleLoom$Share" "RoleLoom$Act" "a" "I") ∈ lw_all := lw_g (lw_at lw_m4 0 rfl) rfl
theorem q796 : (Jvm.Cond.laysFinal "RoleLoom$Share" "RoleLoom$Act" "b" "I") ∈ lw_all := lw_g (lw_at lw_m4 1 rfl) rfl
theorem q797 : (Jvm.Cond.laysFinal "RoleLoom$Share" "RoleLoom$Act" "this$0" "LRoleLoom;") ∈ lw_all := lw_g (lw_at lw_m4 2 rfl) rfl
theorem q798 : (Jvm.Cond.superclass "RoleLoom$Share" "RoleLoom$Get") ∈ lw_all := lw_g (lw_at lw_m4 3 rfl) rfl
theorem q1062 : (Jvm.Cond.castable "RoleLoom$Share" "RoleLoom$Does") ∈ lw_tbl := lw_at lw_m5 27 rfl
theorem q1063 : (Jvm.Cond.selects "RoleLoom$Share" ({ cls := "RoleLoom$Does", name := "fits", desc := "(LRoleLoom$Part;)Z" } : Jvm.MethodName) ({ cls := "RoleLoom$Get", name := "fits", desc := "(LRoleLoom$Part;)Z" } : Jvm.MethodName)) ∈ lw_all := lw_g (lw_at lw_m5 28 rfl) rfl
theorem q1064 : (Jvm.Cond.unhidden "RoleLoom$Share" "fits" "(LRoleLoom$Part;)Z") ∈ lw_tbl := lw_at lw_m5 29 rfl
theorem q1385 : (Jvm.Cond.selects "RoleLoom$Share" ({ cls := "RoleLoom$Does", name := "act", desc := "(LRoleLoom$Frame;J)J" } : Jvm.MethodName) ({ cls := "RoleLoom$Share", name := "act", desc := "(LRoleLoom$Frame;J)J" } : Jvm.MethodName)) ∈ lw_all := lw_g (lw_at lw_m6 110 rfl) rfl
theorem q1386 : (Jvm.Cond.instanceMethod ({ cls := "RoleLoom$Share", name := "act", desc := "(LRoleLoom$Frame;J)J" } : Jvm.MethodName)) ∈ lw_all := lw_g (lw_at lw_m6 111 rfl) rfl
theorem q1387 : (Jvm.Cond.code ({ cls := "RoleLoom$Share", name := "act", desc := "(LRoleLoom$Frame;J)J" } : Jvm.MethodName) prog_24_method_2_code (6 : Nat) (Option.some Jvm.ClassFile.FieldType.long)) ∈ lw_all := lw_g (lw_at lw_m6 112 rfl) rfl
theorem q1388 : (Jvm.Cond.methodLink "RoleLoom$Share" (15 : Nat) ({ cls := "RoleLoom$Get", name := "act", desc := "(LRoleLoom$Frame;J)J" } : Jvm.MethodName)) ∈ lw_all := lw_g (lw_at lw_m6 113 rfl) rfl
theorem q1389 : (Jvm.Cond.methodLinkNest "RoleLoom$Share" (19 : Nat) ({ cls := "RoleLoom", name := "thrown", desc := "(LRoleLoom$Frame;IJ)LRoleLoom$Thrown;" } : Jvm.MethodName) "RoleLoom") ∈ lw_tbl := lw_at lw_m6 114 rfl
theorem q2066 : (Jvm.Cond.castable "RoleLoom$Share" "RoleLoom$Act") ∈ lw_tbl := lw_at lw_m9 71 rfl
theorem q2084 : (Jvm.Cond.castable "RoleLoom$Share" "java/lang/Object") ∈ lw_tbl := lw_at lw_m9 89 rfl
theorem in_X14 : ∀ w ∈ wsX140, w ∈ lw_all := lw_in wsX140 [795, 796, 797, 794, 792] (by decide +kernel) (by decide +kernel)
/-! RoleLoom$Over -/
set_option maxRecDepth 100000
def RX15 : String := "RoleLoom$Over"
def TX15 : u_T := fun k => match k with
  | 0 => ("RoleLoom$Act", "a", "I", true)
  | 1 => ("RoleLoom$Act", "b", "I", true)
  | 2 => ("RoleLoom$Act", "this$0", "LRoleLoom;", true)
  | 3 => ("RoleLoom$Over", "puts", "Z", true)
  | _ => ("RoleLoom$Over", "this$0", "LRoleLoom;", true)
def tyX15 : Nat → FieldType := fun k => match k with
  | 0 => .int
  | 1 => .int
  | 2 => .object "RoleLoom"
  | 3 => .boolean
  | _ => .object "RoleLoom"
abbrev wsX150 : List Cond := u_ws RX15 TX15 5
-- two fields of one name: no nmX15
theorem tyX15_ok : ∀ k, k < 5 → parseFieldDescriptor (TX15 k).2.2.1 = some (tyX15 k) := by decide +kernel
abbrev cX15_init : ByteArray := prog_20_method_1_code
def yX15_init : MethodName := ⟨RX15, "<init>", "(LRoleLoom;IZ)V"⟩
def dkwX15_init_0 : List UInt8 := [42, 43, 181, 0, 3, 42, 43, 28, 3, 183, 0, 9, 42, 29, 181, 0, 15, 177]
abbrev dktX15_init_0 : List UInt8 := dkwX15_init_0 ++ []
theorem dksX15_init_0 : cX15_init.data.toList.drop 0 = dktX15_init_0 := by decide +kernel
theorem dX15_init_0 : decode cX15_init 0 = .ok (.aload_n 0, 1) := dk_42 (dk_at dksX15_init_0 0 rfl rfl)
theorem dX15_init_1 : decode cX15_init 1 = .ok (.aload_n 1, 1) := dk_43 (dk_at dksX15_init_0 1 rfl rfl)
theorem dX15_init_2 : decode cX15_init 2 = .ok (.putfield 3, 3) := dk_181 0 3 (dk_at dksX15_init_0 2 rfl rfl)
theorem dX15_init_5 : decode cX15_init 5 = .ok (.aload_n 0, 1) := dk_42 (dk_at dksX15_init_0 5 rfl rfl)
theorem dX15_init_6 : decode cX15_init 6 = .ok (.aload_n 1, 1) := dk_43 (dk_at dksX15_init_0 6 rfl rfl)
theorem dX15_init_7 : decode cX15_init 7 = .ok (.iload_n 2, 1) := dk_28 (dk_at dksX15_init_0 7 rfl rfl)
theorem dX15_init_8 : decode cX15_init 8 = .ok (.iconst 0, 1) := dk_3 (dk_at dksX15_init_0 8 rfl rfl)
theorem dX15_init_9 : decode cX15_init 9 = .ok (.invokespecial 9, 3) := dk_183 0 9 (dk_at dksX15_init_0 9 rfl rfl)
theorem dX15_init_12 : decode cX15_init 12 = .ok (.aload_n 0, 1) := dk_42 (dk_at dksX15_init_0 12 rfl rfl)
theorem dX15_init_13 : decode cX15_init 13 = .ok (.iload_n 3, 1) := dk_29 (dk_at dksX15_init_0 13 rfl rfl)
theorem dX15_init_14 : decode cX15_init 14 = .ok (.putfield 15, 3) := dk_181 0 15 (dk_at dksX15_init_0 14 rfl rfl)
theorem dX15_init_17 : decode cX15_init 17 = .ok (.return_, 1) := dk_177 (dk_at dksX15_init_0 17 rfl rfl)
abbrev cX15_fits : ByteArray := prog_20_method_3_code
def yX15_fits : MethodName := ⟨RX15, "fits", "(LRoleLoom$Part;)Z"⟩
def dkwX15_fits_0 : List UInt8 := [42, 180, 0, 23, 3, 16, 7, 184, 0, 27, 172]
abbrev dktX15_fits_0 : List UInt8 := dkwX15_fits_0 ++ []
theorem dksX15_fits_0 : cX15_fits.data.toList.drop 0 = dktX15_fits_0 := by decide +kernel
theorem dX15_fits_0 : decode cX15_fits 0 = .ok (.aload_n 0, 1) := dk_42 (dk_at dksX15_fits_0 0 rfl rfl)
theorem dX15_fits_1 : decode cX15_fits 1 = .ok (.getfield 23, 3) := dk_180 0 23 (dk_at dksX15_fits_0 1 rfl rfl)
theorem dX15_fits_4 : decode cX15_fits 4 = .ok (.iconst 0, 1) := dk_3 (dk_at dksX15_fits_0 4 rfl rfl)
theorem dX15_fits_5 : decode cX15_fits 5 = .ok (.bipush 7, 2) := dk_16 7 (dk_at dksX15_fits_0 5 rfl rfl)
theorem dX15_fits_7 : decode cX15_fits 7 = .ok (.invokestatic 27, 3) := dk_184 0 27 (dk_at dksX15_fits_0 7 rfl rfl)
theorem dX15_fits_10 : decode cX15_fits 10 = .ok (.ireturn, 1) := dk_172 (dk_at dksX15_fits_0 10 rfl rfl)
abbrev cX15_act : ByteArray := prog_20_method_2_code
def yX15_act : MethodName := ⟨RX15, "act", "(LRoleLoom$Frame;J)J"⟩
def dkwX15_act_1 : List UInt8 := [180, 0, 19, 42, 180, 0, 23, 47, 173]
abbrev dktX15_act_1 : List UInt8 := dkwX15_act_1 ++ []
def dkwX15_act_0 : List UInt8 := [42, 180, 0, 15, 153, 0, 16, 42, 180, 0, 3, 180, 0, 19, 42, 180, 0, 23, 32, 80, 42, 180, 0, 3]
abbrev dktX15_act_0 : List UInt8 := dkwX15_act_0 ++ dktX15_act_1
theorem dksX15_act_0 : cX15_act.data.toList.drop 0 = dktX15_act_0 := by decide +kernel
theorem dksX15_act_1 : cX15_act.data.toList.drop 24 = dktX15_act_1 := dk_seg dksX15_act_0 24 rfl rfl
theorem dX15_act_0 : decode cX15_act 0 = .ok (.aload_n 0, 1) := dk_42 (dk_at dksX15_act_0 0 rfl rfl)
theorem dX15_act_1 : decode cX15_act 1 = .ok (.getfield 15, 3) := dk_180 0 15 (dk_at dksX15_act_0 1 rfl rfl)
theorem dX15_act_4 : decode cX15_act 4 = .ok (.ifCond .eq 16, 3) := dk_153 0 16 (dk_at dksX15_act_0 4 rfl rfl)
theorem dX15_act_7 : decode cX15_act 7 = .ok (.aload_n 0, 1) := dk_42 (dk_at dksX15_act_0 7 rfl rfl)
theorem dX15_act_8 : decode cX15_act 8 = .ok (.getfield 3, 3) := dk_180 0 3 (dk_at dksX15_act_0 8 rfl rfl)
theorem dX15_act_11 : decode cX15_act 11 = .ok (.getfield 19, 3) := dk_180 0 19 (dk_at dksX15_act_0 11 rfl rfl)
theorem dX15_act_14 : decode cX15_act 14 = .ok (.aload_n 0, 1) := dk_42 (dk_at dksX15_act_0 14 rfl rfl)
theorem dX15_act_15 : decode cX15_act 15 = .ok (.getfield 23, 3) := dk_180 0 23 (dk_at dksX15_act_0 15 rfl rfl)
theorem dX15_act_18 : decode cX15_act 18 = .ok (.lload_n 2, 1) := dk_32 (dk_at dksX15_act_0 18 rfl rfl)
theorem dX15_act_19 : decode cX15_act 19 = .ok (.lastore, 1) := dk_80 (dk_at dksX15_act_0 19 rfl rfl)
theorem dX15_act_20 : decode cX15_act 20 = .ok (.aload_n 0, 1) := dk_42 (dk_at dksX15_act_0 20 rfl rfl)
theorem dX15_act_21 : decode cX15_act 21 = .ok (.getfield 3, 3) := dk_180 0 3 (dk_at dksX15_act_0 21 rfl rfl)
theorem dX15_act_24 : decode cX15_act 24 = .ok (.getfield 19, 3) := dk_180 0 19 (dk_at dksX15_act_1 0 rfl rfl)
theorem dX15_act_27 : decode cX15_act 27 = .ok (.aload_n 0, 1) := dk_42 (dk_at dksX15_act_1 3 rfl rfl)
theorem dX15_act_28 : decode cX15_act 28 = .ok (.getfield 23, 3) := dk_180 0 23 (dk_at dksX15_act_1 4 rfl rfl)
theorem dX15_act_31 : decode cX15_act 31 = .ok (.laload, 1) := dk_47 (dk_at dksX15_act_1 7 rfl rfl)
theorem dX15_act_32 : decode cX15_act 32 = .ok (.lreturn, 1) := dk_173 (dk_at dksX15_act_1 8 rfl rfl)
theorem q102 : (Jvm.Cond.initialized "RoleLoom$Over") ∈ lw_all := lw_g (lw_at lw_m1 27 rfl) rfl
theorem q302 : (Jvm.Cond.fieldLinkNest "RoleLoom$Over" (19 : Nat) "RoleLoom" "shared" "[J" "RoleLoom") ∈ lw_tbl := lw_at lw_m1 227 rfl
theorem q517 : (Jvm.Cond.selects "RoleLoom$Over" ({ cls := "java/lang/Object", name := "getClass", desc := "()Ljava/lang/Class;" } : Jvm.MethodName) ({ cls := "java/lang/Object", name := "getClass", desc := "()Ljava/lang/Class;" } : Jvm.MethodName)) ∈ lw_all := lw_g (lw_at lw_m2 202 rfl) rfl
theorem q600 : (Jvm.Cond.selects "RoleLoom$Over" ({ cls := "java/lang/Object", name := "equals", desc := "(Ljava/lang/Object;)Z" } : Jvm.MethodName) ({ cls := "java/lang/Object", name := "equals", desc := "(Ljava/lang/Object;)Z" } : Jvm.MethodName)) ∈ lw_all := lw_g (lw_at lw_m3 45 rfl) rfl
theorem q695 : (Jvm.Cond.fieldLink "RoleLoom$Over" (23 : Nat) "RoleLoom$Over" "a" "I") ∈ lw_all := lw_g (lw_at lw_m3 140 rfl) rfl
theorem q696 : (Jvm.Cond.sameField "RoleLoom$Over" "RoleLoom$Act" "a" "I") ∈ lw_all := lw_g (lw_at lw_m3 141 rfl) rfl
theorem q800 : (Jvm.Cond.instantiable "RoleLoom$Over" (5 : Nat)) ∈ lw_all := lw_g (lw_at lw_m4 5 rfl) rfl
theorem q802 : (Jvm.Cond.instanceMethod ({ cls := "RoleLoom$Over", name := "<init>", desc := "(LRoleLoom;IZ)V" } : Jvm.MethodName)) ∈ lw_all := lw_g (lw_at lw_m4 7 rfl) rfl
theorem q803 : (Jvm.Cond.code ({ cls := "RoleLoom$Over", name := "<init>", desc := "(LRoleLoom;IZ)V" } : Jvm.MethodName) prog_20_method_1_code (4 : Nat) (Option.none : Option Jvm.ClassFile.FieldType)) ∈ lw_all := lw_g (lw_at lw_m4 8 rfl) rfl
theorem q804 : (Jvm.Cond.methodLink "RoleLoom$Over" (9 : Nat) ({ cls := "RoleLoom$Act", name := "<init>", desc := "(LRoleLoom;II)V" } : Jvm.MethodName)) ∈ lw_all := lw_g (lw_at lw_m4 9 rfl) rfl
theorem q805 : (Jvm.Cond.fieldLink "RoleLoom$Over" (15 : Nat) "RoleLoom$Over" "puts" "Z") ∈ lw_all := lw_g (lw_at lw_m4 10 rfl) rfl
theorem q806 : (Jvm.Cond.fieldLink "RoleLoom$Over" (3 : Nat) "RoleLoom$Over" "this$0" "LRoleLoom;") ∈ lw_all := lw_g (lw_at lw_m4 11 rfl) rfl
theorem q807 : (Jvm.Cond.laysFinal "RoleLoom$Over" "RoleLoom$Over" "puts" "Z") ∈ lw_all := lw_g (lw_at lw_m4 12 rfl) rfl
theorem q808 : (Jvm.Cond.soleField "RoleLoom$Over" "puts") ∈ lw_all := lw_g (lw_at lw_m4 13 rfl) rfl
theorem q809 : (Jvm.Cond.laysFinal "RoleLoom$Over" "RoleLoom$Over" "this$0" "LRoleLoom;") ∈ lw_all := lw_g (lw_at lw_m4 14 rfl) rfl
theorem q810 : (Jvm.Cond.soleField "RoleLoom$Over" "this$0") ∈ lw_all := lw_g (lw_at lw_m4 15 rfl) rfl
theorem q811 : (Jvm.Cond.laysFinal "RoleLoom$Over" "RoleLoom$Act" "a" "I") ∈ lw_all := lw_g (lw_at lw_m4 16 rfl) rfl
theorem q812 : (Jvm.Cond.laysFinal "RoleLoom$Over" "RoleLoom$Act" "b" "I") ∈ lw_all := lw_g (lw_at lw_m4 17 rfl) rfl
theorem q813 : (Jvm.Cond.laysFinal "RoleLoom$Over" "RoleLoom$Act" "this$0" "LRoleLoom;") ∈ lw_all := lw_g (lw_at lw_m4 18 rfl) rfl
theorem q814 : (Jvm.Cond.superclass "RoleLoom$Over" "RoleLoom$Act") ∈ lw_all := lw_g (lw_at lw_m4 19 rfl) rfl
theorem q1052 : (Jvm.Cond.castable "RoleLoom$Over" "RoleLoom$Does") ∈ lw_tbl := lw_at lw_m5 17 rfl
theorem q1053 : (Jvm.Cond.selects "RoleLoom$Over" ({ cls := "RoleLoom$Does", name := "fits", desc := "(LRoleLoom$Part;)Z" } : Jvm.MethodName) ({ cls := "RoleLoom$Over", name := "fits", desc := "(LRoleLoom$Part;)Z" } : Jvm.MethodName)) ∈ lw_all := lw_g (lw_at lw_m5 18 rfl) rfl
theorem q1054 : (Jvm.Cond.unhidden "RoleLoom$Over" "fits" "(LRoleLoom$Part;)Z") ∈ lw_tbl := lw_at lw_m5 19 rfl
theorem q1055 : (Jvm.Cond.instanceMethod ({ cls := "RoleLoom$Over", name := "fits", desc := "(LRoleLoom$Part;)Z" } : Jvm.MethodName)) ∈ lw_all := lw_g (lw_at lw_m5 20 rfl) rfl
theorem q1056 : (Jvm.Cond.publicMethod ({ cls := "RoleLoom$Over", name := "fits", desc := "(LRoleLoom$Part;)Z" } : Jvm.MethodName)) ∈ lw_tbl := lw_at lw_m5 21 rfl
theorem q1057 : (Jvm.Cond.code ({ cls := "RoleLoom$Over", name := "fits", desc := "(LRoleLoom$Part;)Z" } : Jvm.MethodName) prog_20_method_3_code (2 : Nat) (Option.some Jvm.ClassFile.FieldType.boolean)) ∈ lw_all := lw_g (lw_at lw_m5 22 rfl) rfl
theorem q1058 : (Jvm.Cond.methodLinkNest "RoleLoom$Over" (27 : Nat) ({ cls := "RoleLoom", name := "in", desc := "(III)Z" } : Jvm.MethodName) "RoleLoom") ∈ lw_tbl := lw_at lw_m5 23 rfl
theorem q1379 : (Jvm.Cond.selects "RoleLoom$Over" ({ cls := "RoleLoom$Does", name := "act", desc := "(LRoleLoom$Frame;J)J" } : Jvm.MethodName) ({ cls := "RoleLoom$Over", name := "act", desc := "(LRoleLoom$Frame;J)J" } : Jvm.MethodName)) ∈ lw_all := lw_g (lw_at lw_m6 104 rfl) rfl
theorem q1380 : (Jvm.Cond.instanceMethod ({ cls := "RoleLoom$Over", name := "act", desc := "(LRoleLoom$Frame;J)J" } : Jvm.MethodName)) ∈ lw_all := lw_g (lw_at lw_m6 105 rfl) rfl
theorem q1381 : (Jvm.Cond.code ({ cls := "RoleLoom$Over", name := "act", desc := "(LRoleLoom$Frame;J)J" } : Jvm.MethodName) prog_20_method_2_code (4 : Nat) (Option.some Jvm.ClassFile.FieldType.long)) ∈ lw_all := lw_g (lw_at lw_m6 106 rfl) rfl
theorem q2064 : (Jvm.Cond.castable "RoleLoom$Over" "RoleLoom$Act") ∈ lw_tbl := lw_at lw_m9 69 rfl
theorem q2085 : (Jvm.Cond.castable "RoleLoom$Over" "java/lang/Object") ∈ lw_tbl := lw_at lw_m9 90 rfl
theorem in_X15 : ∀ w ∈ wsX150, w ∈ lw_all := lw_in wsX150 [811, 812, 813, 807, 809] (by decide +kernel) (by decide +kernel)
/-! RoleLoom$Next -/
set_option maxRecDepth 100000
def RX16 : String := "RoleLoom$Next"
def TX16 : u_T := fun k => match k with
  | 0 => ("RoleLoom$Act", "a", "I", true)
  | 1 => ("RoleLoom$Act", "b", "I", true)
  | 2 => ("RoleLoom$Act", "this$0", "LRoleLoom;", true)
  | _ => ("RoleLoom$Next", "this$0", "LRoleLoom;", true)
def tyX16 : Nat → FieldType := fun k => match k with
  | 0 => .int
  | 1 => .int
  | 2 => .object "RoleLoom"
  | _ => .object "RoleLoom"
abbrev wsX160 : List Cond := u_ws RX16 TX16 4
-- two fields of one name: no nmX16
theorem tyX16_ok : ∀ k, k < 4 → parseFieldDescriptor (TX16 k).2.2.1 = some (tyX16 k) := by decide +kernel
abbrev cX16_init : ByteArray := prog_18_method_1_code
def yX16_init : MethodName := ⟨RX16, "<init>", "(LRoleLoom;)V"⟩
def dkwX16_init_0 : List UInt8 := [42, 43, 181, 0, 3, 42, 43, 3, 3, 183, 0, 9, 177]
abbrev dktX16_init_0 : List UInt8 := dkwX16_init_0 ++ []
theorem dksX16_init_0 : cX16_init.data.toList.drop 0 = dktX16_init_0 := by decide +kernel
theorem dX16_init_0 : decode cX16_init 0 = .ok (.aload_n 0, 1) := dk_42 (dk_at dksX16_init_0 0 rfl rfl)
theorem dX16_init_1 : decode cX16_init 1 = .ok (.aload_n 1, 1) := dk_43 (dk_at dksX16_init_0 1 rfl rfl)
theorem dX16_init_2 : decode cX16_init 2 = .ok (.putfield 3, 3) := dk_181 0 3 (dk_at dksX16_init_0 2 rfl rfl)
theorem dX16_init_5 : decode cX16_init 5 = .ok (.aload_n 0, 1) := dk_42 (dk_at dksX16_init_0 5 rfl rfl)
theorem dX16_init_6 : decode cX16_init 6 = .ok (.aload_n 1, 1) := dk_43 (dk_at dksX16_init_0 6 rfl rfl)
theorem dX16_init_7 : decode cX16_init 7 = .ok (.iconst 0, 1) := dk_3 (dk_at dksX16_init_0 7 rfl rfl)
theorem dX16_init_8 : decode cX16_init 8 = .ok (.iconst 0, 1) := dk_3 (dk_at dksX16_init_0 8 rfl rfl)
theorem dX16_init_9 : decode cX16_init 9 = .ok (.invokespecial 9, 3) := dk_183 0 9 (dk_at dksX16_init_0 9 rfl rfl)
theorem dX16_init_12 : decode cX16_init 12 = .ok (.return_, 1) := dk_177 (dk_at dksX16_init_0 12 rfl rfl)
abbrev cX16_act : ByteArray := prog_18_method_2_code
def yX16_act : MethodName := ⟨RX16, "act", "(LRoleLoom$Frame;J)J"⟩
def dkwX16_act_2 : List UInt8 := [180, 0, 33, 4, 96, 182, 0, 36, 173]
abbrev dktX16_act_2 : List UInt8 := dkwX16_act_2 ++ []
def dkwX16_act_1 : List UInt8 := [182, 0, 25, 191, 42, 180, 0, 3, 43, 180, 0, 29, 43, 180, 0, 15, 43, 180, 0, 21, 4, 100, 32, 43]
abbrev dktX16_act_1 : List UInt8 := dkwX16_act_1 ++ dktX16_act_2
def dkwX16_act_0 : List UInt8 := [43, 180, 0, 15, 198, 0, 10, 43, 180, 0, 21, 154, 0, 15, 42, 180, 0, 3, 43, 16, 12, 9]
abbrev dktX16_act_0 : List UInt8 := dkwX16_act_0 ++ dktX16_act_1
theorem dksX16_act_0 : cX16_act.data.toList.drop 0 = dktX16_act_0 := by decide +kernel
theorem dksX16_act_1 : cX16_act.data.toList.drop 22 = dktX16_act_1 := dk_seg dksX16_act_0 22 rfl rfl
theorem dksX16_act_2 : cX16_act.data.toList.drop 46 = dktX16_act_2 := dk_seg dksX16_act_1 24 rfl rfl
theorem dX16_act_0 : decode cX16_act 0 = .ok (.aload_n 1, 1) := dk_43 (dk_at dksX16_act_0 0 rfl rfl)
theorem dX16_act_1 : decode cX16_act 1 = .ok (.getfield 15, 3) := dk_180 0 15 (dk_at dksX16_act_0 1 rfl rfl)
theorem dX16_act_4 : decode cX16_act 4 = .ok (.ifnull 10, 3) := dk_198 0 10 (dk_at dksX16_act_0 4 rfl rfl)
theorem dX16_act_7 : decode cX16_act 7 = .ok (.aload_n 1, 1) := dk_43 (dk_at dksX16_act_0 7 rfl rfl)
theorem dX16_act_8 : decode cX16_act 8 = .ok (.getfield 21, 3) := dk_180 0 21 (dk_at dksX16_act_0 8 rfl rfl)
theorem dX16_act_11 : decode cX16_act 11 = .ok (.ifCond .ne 15, 3) := dk_154 0 15 (dk_at dksX16_act_0 11 rfl rfl)
theorem dX16_act_14 : decode cX16_act 14 = .ok (.aload_n 0, 1) := dk_42 (dk_at dksX16_act_0 14 rfl rfl)
theorem dX16_act_15 : decode cX16_act 15 = .ok (.getfield 3, 3) := dk_180 0 3 (dk_at dksX16_act_0 15 rfl rfl)
theorem dX16_act_18 : decode cX16_act 18 = .ok (.aload_n 1, 1) := dk_43 (dk_at dksX16_act_0 18 rfl rfl)
theorem dX16_act_19 : decode cX16_act 19 = .ok (.bipush 12, 2) := dk_16 12 (dk_at dksX16_act_0 19 rfl rfl)
theorem dX16_act_21 : decode cX16_act 21 = .ok (.lconst 0, 1) := dk_9 (dk_at dksX16_act_0 21 rfl rfl)
theorem dX16_act_22 : decode cX16_act 22 = .ok (.invokevirtual 25, 3) := dk_182 0 25 (dk_at dksX16_act_1 0 rfl rfl)
theorem dX16_act_25 : decode cX16_act 25 = .ok (.athrow, 1) := dk_191 (dk_at dksX16_act_1 3 rfl rfl)
theorem dX16_act_26 : decode cX16_act 26 = .ok (.aload_n 0, 1) := dk_42 (dk_at dksX16_act_1 4 rfl rfl)
theorem dX16_act_27 : decode cX16_act 27 = .ok (.getfield 3, 3) := dk_180 0 3 (dk_at dksX16_act_1 5 rfl rfl)
theorem dX16_act_30 : decode cX16_act 30 = .ok (.aload_n 1, 1) := dk_43 (dk_at dksX16_act_1 8 rfl rfl)
theorem dX16_act_31 : decode cX16_act 31 = .ok (.getfield 29, 3) := dk_180 0 29 (dk_at dksX16_act_1 9 rfl rfl)
theorem dX16_act_34 : decode cX16_act 34 = .ok (.aload_n 1, 1) := dk_43 (dk_at dksX16_act_1 12 rfl rfl)
theorem dX16_act_35 : decode cX16_act 35 = .ok (.getfield 15, 3) := dk_180 0 15 (dk_at dksX16_act_1 13 rfl rfl)
theorem dX16_act_38 : decode cX16_act 38 = .ok (.aload_n 1, 1) := dk_43 (dk_at dksX16_act_1 16 rfl rfl)
theorem dX16_act_39 : decode cX16_act 39 = .ok (.getfield 21, 3) := dk_180 0 21 (dk_at dksX16_act_1 17 rfl rfl)
theorem dX16_act_42 : decode cX16_act 42 = .ok (.iconst 1, 1) := dk_4 (dk_at dksX16_act_1 20 rfl rfl)
theorem dX16_act_43 : decode cX16_act 43 = .ok (.isub, 1) := dk_100 (dk_at dksX16_act_1 21 rfl rfl)
theorem dX16_act_44 : decode cX16_act 44 = .ok (.lload_n 2, 1) := dk_32 (dk_at dksX16_act_1 22 rfl rfl)
theorem dX16_act_45 : decode cX16_act 45 = .ok (.aload_n 1, 1) := dk_43 (dk_at dksX16_act_1 23 rfl rfl)
theorem dX16_act_46 : decode cX16_act 46 = .ok (.getfield 33, 3) := dk_180 0 33 (dk_at dksX16_act_2 0 rfl rfl)
theorem dX16_act_49 : decode cX16_act 49 = .ok (.iconst 1, 1) := dk_4 (dk_at dksX16_act_2 3 rfl rfl)
theorem dX16_act_50 : decode cX16_act 50 = .ok (.iadd, 1) := dk_96 (dk_at dksX16_act_2 4 rfl rfl)
theorem dX16_act_51 : decode cX16_act 51 = .ok (.invokevirtual 36, 3) := dk_182 0 36 (dk_at dksX16_act_2 5 rfl rfl)
theorem dX16_act_54 : decode cX16_act 54 = .ok (.lreturn, 1) := dk_173 (dk_at dksX16_act_2 8 rfl rfl)
theorem q103 : (Jvm.Cond.initialized "RoleLoom$Next") ∈ lw_all := lw_g (lw_at lw_m1 28 rfl) rfl
theorem q249 : (Jvm.Cond.fieldLinkNest "RoleLoom$Next" (29 : Nat) "RoleLoom$Frame" "thing" "LRoleLoom$Thing;" "RoleLoom") ∈ lw_tbl := lw_at lw_m1 174 rfl
theorem q259 : (Jvm.Cond.fieldLinkNest "RoleLoom$Next" (15 : Nat) "RoleLoom$Frame" "chain" "Ljava/util/ArrayList;" "RoleLoom") ∈ lw_tbl := lw_at lw_m1 184 rfl
theorem q261 : (Jvm.Cond.fieldLinkNest "RoleLoom$Next" (21 : Nat) "RoleLoom$Frame" "link" "I" "RoleLoom") ∈ lw_tbl := lw_at lw_m1 186 rfl
theorem q268 : (Jvm.Cond.fieldLinkNest "RoleLoom$Next" (33 : Nat) "RoleLoom$Frame" "deep" "I" "RoleLoom") ∈ lw_tbl := lw_at lw_m1 193 rfl
theorem q515 : (Jvm.Cond.selects "RoleLoom$Next" ({ cls := "java/lang/Object", name := "getClass", desc := "()Ljava/lang/Class;" } : Jvm.MethodName) ({ cls := "java/lang/Object", name := "getClass", desc := "()Ljava/lang/Class;" } : Jvm.MethodName)) ∈ lw_all := lw_g (lw_at lw_m2 200 rfl) rfl
theorem q598 : (Jvm.Cond.selects "RoleLoom$Next" ({ cls := "java/lang/Object", name := "equals", desc := "(Ljava/lang/Object;)Z" } : Jvm.MethodName) ({ cls := "java/lang/Object", name := "equals", desc := "(Ljava/lang/Object;)Z" } : Jvm.MethodName)) ∈ lw_all := lw_g (lw_at lw_m3 43 rfl) rfl
theorem q816 : (Jvm.Cond.instantiable "RoleLoom$Next" (4 : Nat)) ∈ lw_all := lw_g (lw_at lw_m4 21 rfl) rfl
theorem q818 : (Jvm.Cond.instanceMethod ({ cls := "RoleLoom$Next", name := "<init>", desc := "(LRoleLoom;)V" } : Jvm.MethodName)) ∈ lw_all := lw_g (lw_at lw_m4 23 rfl) rfl
theorem q819 : (Jvm.Cond.code ({ cls := "RoleLoom$Next", name := "<init>", desc := "(LRoleLoom;)V" } : Jvm.MethodName) prog_18_method_1_code (2 : Nat) (Option.none : Option Jvm.ClassFile.FieldType)) ∈ lw_all := lw_g (lw_at lw_m4 24 rfl) rfl
theorem q820 : (Jvm.Cond.methodLink "RoleLoom$Next" (9 : Nat) ({ cls := "RoleLoom$Act", name := "<init>", desc := "(LRoleLoom;II)V" } : Jvm.MethodName)) ∈ lw_all := lw_g (lw_at lw_m4 25 rfl) rfl
theorem q821 : (Jvm.Cond.fieldLink "RoleLoom$Next" (3 : Nat) "RoleLoom$Next" "this$0" "LRoleLoom;") ∈ lw_all := lw_g (lw_at lw_m4 26 rfl) rfl
theorem q822 : (Jvm.Cond.laysFinal "RoleLoom$Next" "RoleLoom$Next" "this$0" "LRoleLoom;") ∈ lw_all := lw_g (lw_at lw_m4 27 rfl) rfl
theorem q823 : (Jvm.Cond.soleField "RoleLoom$Next" "this$0") ∈ lw_all := lw_g (lw_at lw_m4 28 rfl) rfl
theorem q824 : (Jvm.Cond.laysFinal "RoleLoom$Next" "RoleLoom$Act" "a" "I") ∈ lw_all := lw_g (lw_at lw_m4 29 rfl) rfl
theorem q825 : (Jvm.Cond.laysFinal "RoleLoom$Next" "RoleLoom$Act" "b" "I") ∈ lw_all := lw_g (lw_at lw_m4 30 rfl) rfl
theorem q826 : (Jvm.Cond.laysFinal "RoleLoom$Next" "RoleLoom$Act" "this$0" "LRoleLoom;") ∈ lw_all := lw_g (lw_at lw_m4 31 rfl) rfl
theorem q827 : (Jvm.Cond.superclass "RoleLoom$Next" "RoleLoom$Act") ∈ lw_all := lw_g (lw_at lw_m4 32 rfl) rfl
theorem q1043 : (Jvm.Cond.castable "RoleLoom$Next" "RoleLoom$Does") ∈ lw_tbl := lw_at lw_m5 8 rfl
theorem q1044 : (Jvm.Cond.unhidden "RoleLoom$Next" "fits" "(LRoleLoom$Part;)Z") ∈ lw_tbl := lw_at lw_m5 9 rfl
theorem q1371 : (Jvm.Cond.selects "RoleLoom$Next" ({ cls := "RoleLoom$Does", name := "act", desc := "(LRoleLoom$Frame;J)J" } : Jvm.MethodName) ({ cls := "RoleLoom$Next", name := "act", desc := "(LRoleLoom$Frame;J)J" } : Jvm.MethodName)) ∈ lw_all := lw_g (lw_at lw_m6 96 rfl) rfl
theorem q1372 : (Jvm.Cond.instanceMethod ({ cls := "RoleLoom$Next", name := "act", desc := "(LRoleLoom$Frame;J)J" } : Jvm.MethodName)) ∈ lw_all := lw_g (lw_at lw_m6 97 rfl) rfl
theorem q1373 : (Jvm.Cond.code ({ cls := "RoleLoom$Next", name := "act", desc := "(LRoleLoom$Frame;J)J" } : Jvm.MethodName) prog_18_method_2_code (4 : Nat) (Option.some Jvm.ClassFile.FieldType.long)) ∈ lw_all := lw_g (lw_at lw_m6 98 rfl) rfl
theorem q1374 : (Jvm.Cond.methodLinkNest "RoleLoom$Next" (25 : Nat) ({ cls := "RoleLoom", name := "thrown", desc := "(LRoleLoom$Frame;IJ)LRoleLoom$Thrown;" } : Jvm.MethodName) "RoleLoom") ∈ lw_tbl := lw_at lw_m6 99 rfl
theorem q1375 : (Jvm.Cond.methodLinkNest "RoleLoom$Next" (36 : Nat) ({ cls := "RoleLoom", name := "run", desc := "(LRoleLoom$Thing;Ljava/util/ArrayList;IJI)J" } : Jvm.MethodName) "RoleLoom") ∈ lw_tbl := lw_at lw_m6 100 rfl
theorem q2062 : (Jvm.Cond.castable "RoleLoom$Next" "RoleLoom$Act") ∈ lw_tbl := lw_at lw_m9 67 rfl
theorem q2086 : (Jvm.Cond.castable "RoleLoom$Next" "java/lang/Object") ∈ lw_tbl := lw_at lw_m9 91 rfl
theorem in_X16 : ∀ w ∈ wsX160, w ∈ lw_all := lw_in wsX160 [824, 825, 826, 822] (by decide +kernel) (by decide +kernel)
/-! RoleLoom$Call -/
set_option maxRecDepth 100000
def RX17 : String := "RoleLoom$Call"
def TX17 : u_T := fun k => match k with
  | 0 => ("RoleLoom$Act", "a", "I", true)
  | 1 => ("RoleLoom$Act", "b", "I", true)
  | 2 => ("RoleLoom$Act", "this$0", "LRoleLoom;", true)
  | _ => ("RoleLoom$Call", "this$0", "LRoleLoom;", true)
def tyX17 : Nat → FieldType := fun k => match k with
  | 0 => .int
  | 1 => .int
  | 2 => .object "RoleLoom"
  | _ => .object "RoleLoom"
abbrev wsX170 : List Cond := u_ws RX17 TX17 4
-- two fields of one name: no nmX17
theorem tyX17_ok : ∀ k, k < 4 → parseFieldDescriptor (TX17 k).2.2.1 = some (tyX17 k) := by decide +kernel
abbrev cX17_init : ByteArray := prog_10_method_1_code
def yX17_init : MethodName := ⟨RX17, "<init>", "(LRoleLoom;II)V"⟩
def dkwX17_init_0 : List UInt8 := [42, 43, 181, 0, 3, 42, 43, 28, 29, 183, 0, 9, 177]
abbrev dktX17_init_0 : List UInt8 := dkwX17_init_0 ++ []
theorem dksX17_init_0 : cX17_init.data.toList.drop 0 = dktX17_init_0 := by decide +kernel
theorem dX17_init_0 : decode cX17_init 0 = .ok (.aload_n 0, 1) := dk_42 (dk_at dksX17_init_0 0 rfl rfl)
theorem dX17_init_1 : decode cX17_init 1 = .ok (.aload_n 1, 1) := dk_43 (dk_at dksX17_init_0 1 rfl rfl)
theorem dX17_init_2 : decode cX17_init 2 = .ok (.putfield 3, 3) := dk_181 0 3 (dk_at dksX17_init_0 2 rfl rfl)
theorem dX17_init_5 : decode cX17_init 5 = .ok (.aload_n 0, 1) := dk_42 (dk_at dksX17_init_0 5 rfl rfl)
theorem dX17_init_6 : decode cX17_init 6 = .ok (.aload_n 1, 1) := dk_43 (dk_at dksX17_init_0 6 rfl rfl)
theorem dX17_init_7 : decode cX17_init 7 = .ok (.iload_n 2, 1) := dk_28 (dk_at dksX17_init_0 7 rfl rfl)
theorem dX17_init_8 : decode cX17_init 8 = .ok (.iload_n 3, 1) := dk_29 (dk_at dksX17_init_0 8 rfl rfl)
theorem dX17_init_9 : decode cX17_init 9 = .ok (.invokespecial 9, 3) := dk_183 0 9 (dk_at dksX17_init_0 9 rfl rfl)
theorem dX17_init_12 : decode cX17_init 12 = .ok (.return_, 1) := dk_177 (dk_at dksX17_init_0 12 rfl rfl)
abbrev cX17_fits : ByteArray := prog_10_method_4_code
def yX17_fits : MethodName := ⟨RX17, "fits", "(LRoleLoom$Part;)Z"⟩
def dkwX17_fits_0 : List UInt8 := [42, 180, 0, 21, 3, 16, 11, 184, 0, 66, 172]
abbrev dktX17_fits_0 : List UInt8 := dkwX17_fits_0 ++ []
theorem dksX17_fits_0 : cX17_fits.data.toList.drop 0 = dktX17_fits_0 := by decide +kernel
theorem dX17_fits_0 : decode cX17_fits 0 = .ok (.aload_n 0, 1) := dk_42 (dk_at dksX17_fits_0 0 rfl rfl)
theorem dX17_fits_1 : decode cX17_fits 1 = .ok (.getfield 21, 3) := dk_180 0 21 (dk_at dksX17_fits_0 1 rfl rfl)
theorem dX17_fits_4 : decode cX17_fits 4 = .ok (.iconst 0, 1) := dk_3 (dk_at dksX17_fits_0 4 rfl rfl)
theorem dX17_fits_5 : decode cX17_fits 5 = .ok (.bipush 11, 2) := dk_16 11 (dk_at dksX17_fits_0 5 rfl rfl)
theorem dX17_fits_7 : decode cX17_fits 7 = .ok (.invokestatic 66, 3) := dk_184 0 66 (dk_at dksX17_fits_0 7 rfl rfl)
theorem dX17_fits_10 : decode cX17_fits 10 = .ok (.ireturn, 1) := dk_172 (dk_at dksX17_fits_0 10 rfl rfl)
abbrev cX17_on : ByteArray := prog_10_method_3_code
def yX17_on : MethodName := ⟨RX17, "on", "(LRoleLoom$Frame;LRoleLoom$Thing;IJ)J"⟩
def dkwX17_on_3 : List UInt8 := [182, 0, 62, 173]
abbrev dktX17_on_3 : List UInt8 := dkwX17_on_3 ++ []
def dkwX17_on_2 : List UInt8 := [191, 42, 180, 0, 3, 44, 25, 6, 25, 6, 182, 0, 55, 4, 100, 22, 4, 43, 180, 0, 59, 4, 96]
abbrev dktX17_on_2 : List UInt8 := dkwX17_on_2 ++ dktX17_on_3
def dkwX17_on_1 : List UInt8 := [25, 6, 198, 0, 11, 25, 6, 182, 0, 47, 153, 0, 15, 42, 180, 0, 3, 43, 16, 12, 9, 182, 0, 51]
abbrev dktX17_on_1 : List UInt8 := dkwX17_on_1 ++ dktX17_on_2
def dkwX17_on_0 : List UInt8 := [44, 199, 0, 7, 1, 167, 0, 17, 44, 180, 0, 29, 180, 0, 35, 29, 182, 0, 41, 192, 0, 42, 58, 6]
abbrev dktX17_on_0 : List UInt8 := dkwX17_on_0 ++ dktX17_on_1
theorem dksX17_on_0 : cX17_on.data.toList.drop 0 = dktX17_on_0 := by decide +kernel
theorem dksX17_on_1 : cX17_on.data.toList.drop 24 = dktX17_on_1 := dk_seg dksX17_on_0 24 rfl rfl
theorem dksX17_on_2 : cX17_on.data.toList.drop 48 = dktX17_on_2 := dk_seg dksX17_on_1 24 rfl rfl
theorem dksX17_on_3 : cX17_on.data.toList.drop 71 = dktX17_on_3 := dk_seg dksX17_on_2 23 rfl rfl
theorem dX17_on_0 : decode cX17_on 0 = .ok (.aload_n 2, 1) := dk_44 (dk_at dksX17_on_0 0 rfl rfl)
theorem dX17_on_1 : decode cX17_on 1 = .ok (.ifnonnull 7, 3) := dk_199 0 7 (dk_at dksX17_on_0 1 rfl rfl)
theorem dX17_on_4 : decode cX17_on 4 = .ok (.aconst_null, 1) := dk_1 (dk_at dksX17_on_0 4 rfl rfl)
theorem dX17_on_5 : decode cX17_on 5 = .ok (.goto 17, 3) := dk_167 0 17 (dk_at dksX17_on_0 5 rfl rfl)
theorem dX17_on_8 : decode cX17_on 8 = .ok (.aload_n 2, 1) := dk_44 (dk_at dksX17_on_0 8 rfl rfl)
theorem dX17_on_9 : decode cX17_on 9 = .ok (.getfield 29, 3) := dk_180 0 29 (dk_at dksX17_on_0 9 rfl rfl)
theorem dX17_on_12 : decode cX17_on 12 = .ok (.getfield 35, 3) := dk_180 0 35 (dk_at dksX17_on_0 12 rfl rfl)
theorem dX17_on_15 : decode cX17_on 15 = .ok (.iload_n 3, 1) := dk_29 (dk_at dksX17_on_0 15 rfl rfl)
theorem dX17_on_16 : decode cX17_on 16 = .ok (.invokevirtual 41, 3) := dk_182 0 41 (dk_at dksX17_on_0 16 rfl rfl)
theorem dX17_on_19 : decode cX17_on 19 = .ok (.checkcast 42, 3) := dk_192 0 42 (dk_at dksX17_on_0 19 rfl rfl)
theorem dX17_on_22 : decode cX17_on 22 = .ok (.astore 6, 2) := dk_58 6 (dk_at dksX17_on_0 22 rfl rfl)
theorem dX17_on_24 : decode cX17_on 24 = .ok (.aload 6, 2) := dk_25 6 (dk_at dksX17_on_1 0 rfl rfl)
theorem dX17_on_26 : decode cX17_on 26 = .ok (.ifnull 11, 3) := dk_198 0 11 (dk_at dksX17_on_1 2 rfl rfl)
theorem dX17_on_29 : decode cX17_on 29 = .ok (.aload 6, 2) := dk_25 6 (dk_at dksX17_on_1 5 rfl rfl)
theorem dX17_on_31 : decode cX17_on 31 = .ok (.invokevirtual 47, 3) := dk_182 0 47 (dk_at dksX17_on_1 7 rfl rfl)
theorem dX17_on_34 : decode cX17_on 34 = .ok (.ifCond .eq 15, 3) := dk_153 0 15 (dk_at dksX17_on_1 10 rfl rfl)
theorem dX17_on_37 : decode cX17_on 37 = .ok (.aload_n 0, 1) := dk_42 (dk_at dksX17_on_1 13 rfl rfl)
theorem dX17_on_38 : decode cX17_on 38 = .ok (.getfield 3, 3) := dk_180 0 3 (dk_at dksX17_on_1 14 rfl rfl)
theorem dX17_on_41 : decode cX17_on 41 = .ok (.aload_n 1, 1) := dk_43 (dk_at dksX17_on_1 17 rfl rfl)
theorem dX17_on_42 : decode cX17_on 42 = .ok (.bipush 12, 2) := dk_16 12 (dk_at dksX17_on_1 18 rfl rfl)
theorem dX17_on_44 : decode cX17_on 44 = .ok (.lconst 0, 1) := dk_9 (dk_at dksX17_on_1 20 rfl rfl)
theorem dX17_on_45 : decode cX17_on 45 = .ok (.invokevirtual 51, 3) := dk_182 0 51 (dk_at dksX17_on_1 21 rfl rfl)
theorem dX17_on_48 : decode cX17_on 48 = .ok (.athrow, 1) := dk_191 (dk_at dksX17_on_2 0 rfl rfl)
theorem dX17_on_49 : decode cX17_on 49 = .ok (.aload_n 0, 1) := dk_42 (dk_at dksX17_on_2 1 rfl rfl)
theorem dX17_on_50 : decode cX17_on 50 = .ok (.getfield 3, 3) := dk_180 0 3 (dk_at dksX17_on_2 2 rfl rfl)
theorem dX17_on_53 : decode cX17_on 53 = .ok (.aload_n 2, 1) := dk_44 (dk_at dksX17_on_2 5 rfl rfl)
theorem dX17_on_54 : decode cX17_on 54 = .ok (.aload 6, 2) := dk_25 6 (dk_at dksX17_on_2 6 rfl rfl)
theorem dX17_on_56 : decode cX17_on 56 = .ok (.aload 6, 2) := dk_25 6 (dk_at dksX17_on_2 8 rfl rfl)
theorem dX17_on_58 : decode cX17_on 58 = .ok (.invokevirtual 55, 3) := dk_182 0 55 (dk_at dksX17_on_2 10 rfl rfl)
theorem dX17_on_61 : decode cX17_on 61 = .ok (.iconst 1, 1) := dk_4 (dk_at dksX17_on_2 13 rfl rfl)
theorem dX17_on_62 : decode cX17_on 62 = .ok (.isub, 1) := dk_100 (dk_at dksX17_on_2 14 rfl rfl)
theorem dX17_on_63 : decode cX17_on 63 = .ok (.lload 4, 2) := dk_22 4 (dk_at dksX17_on_2 15 rfl rfl)
theorem dX17_on_65 : decode cX17_on 65 = .ok (.aload_n 1, 1) := dk_43 (dk_at dksX17_on_2 17 rfl rfl)
theorem dX17_on_66 : decode cX17_on 66 = .ok (.getfield 59, 3) := dk_180 0 59 (dk_at dksX17_on_2 18 rfl rfl)
theorem dX17_on_69 : decode cX17_on 69 = .ok (.iconst 1, 1) := dk_4 (dk_at dksX17_on_2 21 rfl rfl)
theorem dX17_on_70 : decode cX17_on 70 = .ok (.iadd, 1) := dk_96 (dk_at dksX17_on_2 22 rfl rfl)
theorem dX17_on_71 : decode cX17_on 71 = .ok (.invokevirtual 62, 3) := dk_182 0 62 (dk_at dksX17_on_3 0 rfl rfl)
theorem dX17_on_74 : decode cX17_on 74 = .ok (.lreturn, 1) := dk_173 (dk_at dksX17_on_3 3 rfl rfl)
abbrev cX17_act : ByteArray := prog_10_method_2_code
def yX17_act : MethodName := ⟨RX17, "act", "(LRoleLoom$Frame;J)J"⟩
def dkwX17_act_0 : List UInt8 := [42, 43, 43, 180, 0, 15, 42, 180, 0, 21, 32, 182, 0, 25, 173]
abbrev dktX17_act_0 : List UInt8 := dkwX17_act_0 ++ []
theorem dksX17_act_0 : cX17_act.data.toList.drop 0 = dktX17_act_0 := by decide +kernel
theorem dX17_act_0 : decode cX17_act 0 = .ok (.aload_n 0, 1) := dk_42 (dk_at dksX17_act_0 0 rfl rfl)
theorem dX17_act_1 : decode cX17_act 1 = .ok (.aload_n 1, 1) := dk_43 (dk_at dksX17_act_0 1 rfl rfl)
theorem dX17_act_2 : decode cX17_act 2 = .ok (.aload_n 1, 1) := dk_43 (dk_at dksX17_act_0 2 rfl rfl)
theorem dX17_act_3 : decode cX17_act 3 = .ok (.getfield 15, 3) := dk_180 0 15 (dk_at dksX17_act_0 3 rfl rfl)
theorem dX17_act_6 : decode cX17_act 6 = .ok (.aload_n 0, 1) := dk_42 (dk_at dksX17_act_0 6 rfl rfl)
theorem dX17_act_7 : decode cX17_act 7 = .ok (.getfield 21, 3) := dk_180 0 21 (dk_at dksX17_act_0 7 rfl rfl)
theorem dX17_act_10 : decode cX17_act 10 = .ok (.lload_n 2, 1) := dk_32 (dk_at dksX17_act_0 10 rfl rfl)
theorem dX17_act_11 : decode cX17_act 11 = .ok (.invokevirtual 25, 3) := dk_182 0 25 (dk_at dksX17_act_0 11 rfl rfl)
theorem dX17_act_14 : decode cX17_act 14 = .ok (.lreturn, 1) := dk_173 (dk_at dksX17_act_0 14 rfl rfl)
theorem q104 : (Jvm.Cond.initialized "RoleLoom$Call") ∈ lw_all := lw_g (lw_at lw_m1 29 rfl) rfl
theorem q248 : (Jvm.Cond.fieldLinkNest "RoleLoom$Call" (15 : Nat) "RoleLoom$Frame" "thing" "LRoleLoom$Thing;" "RoleLoom") ∈ lw_tbl := lw_at lw_m1 173 rfl
theorem q270 : (Jvm.Cond.fieldLinkNest "RoleLoom$Call" (59 : Nat) "RoleLoom$Frame" "deep" "I" "RoleLoom") ∈ lw_tbl := lw_at lw_m1 195 rfl
theorem q508 : (Jvm.Cond.selects "RoleLoom$Call" ({ cls := "java/lang/Object", name := "getClass", desc := "()Ljava/lang/Class;" } : Jvm.MethodName) ({ cls := "java/lang/Object", name := "getClass", desc := "()Ljava/lang/Class;" } : Jvm.MethodName)) ∈ lw_all := lw_g (lw_at lw_m2 193 rfl) rfl
theorem q591 : (Jvm.Cond.selects "RoleLoom$Call" ({ cls := "java/lang/Object", name := "equals", desc := "(Ljava/lang/Object;)Z" } : Jvm.MethodName) ({ cls := "java/lang/Object", name := "equals", desc := "(Ljava/lang/Object;)Z" } : Jvm.MethodName)) ∈ lw_all := lw_g (lw_at lw_m3 36 rfl) rfl
theorem q681 : (Jvm.Cond.fieldLink "RoleLoom$Call" (21 : Nat) "RoleLoom$Call" "a" "I") ∈ lw_all := lw_g (lw_at lw_m3 126 rfl) rfl
theorem q682 : (Jvm.Cond.sameField "RoleLoom$Call" "RoleLoom$Act" "a" "I") ∈ lw_all := lw_g (lw_at lw_m3 127 rfl) rfl
theorem q829 : (Jvm.Cond.instantiable "RoleLoom$Call" (4 : Nat)) ∈ lw_all := lw_g (lw_at lw_m4 34 rfl) rfl
theorem q831 : (Jvm.Cond.instanceMethod ({ cls := "RoleLoom$Call", name := "<init>", desc := "(LRoleLoom;II)V" } : Jvm.MethodName)) ∈ lw_all := lw_g (lw_at lw_m4 36 rfl) rfl
theorem q832 : (Jvm.Cond.code ({ cls := "RoleLoom$Call", name := "<init>", desc := "(LRoleLoom;II)V" } : Jvm.MethodName) prog_10_method_1_code (4 : Nat) (Option.none : Option Jvm.ClassFile.FieldType)) ∈ lw_all := lw_g (lw_at lw_m4 37 rfl) rfl
theorem q833 : (Jvm.Cond.methodLink "RoleLoom$Call" (9 : Nat) ({ cls := "RoleLoom$Act", name := "<init>", desc := "(LRoleLoom;II)V" } : Jvm.MethodName)) ∈ lw_all := lw_g (lw_at lw_m4 38 rfl) rfl
theorem q834 : (Jvm.Cond.fieldLink "RoleLoom$Call" (3 : Nat) "RoleLoom$Call" "this$0" "LRoleLoom;") ∈ lw_all := lw_g (lw_at lw_m4 39 rfl) rfl
theorem q835 : (Jvm.Cond.laysFinal "RoleLoom$Call" "RoleLoom$Call" "this$0" "LRoleLoom;") ∈ lw_all := lw_g (lw_at lw_m4 40 rfl) rfl
theorem q836 : (Jvm.Cond.soleField "RoleLoom$Call" "this$0") ∈ lw_all := lw_g (lw_at lw_m4 41 rfl) rfl
theorem q837 : (Jvm.Cond.laysFinal "RoleLoom$Call" "RoleLoom$Act" "a" "I") ∈ lw_all := lw_g (lw_at lw_m4 42 rfl) rfl
theorem q838 : (Jvm.Cond.laysFinal "RoleLoom$Call" "RoleLoom$Act" "b" "I") ∈ lw_all := lw_g (lw_at lw_m4 43 rfl) rfl
theorem q839 : (Jvm.Cond.laysFinal "RoleLoom$Call" "RoleLoom$Act" "this$0" "LRoleLoom;") ∈ lw_all := lw_g (lw_at lw_m4 44 rfl) rfl
theorem q840 : (Jvm.Cond.superclass "RoleLoom$Call" "RoleLoom$Act") ∈ lw_all := lw_g (lw_at lw_m4 45 rfl) rfl
theorem q1013 : (Jvm.Cond.castable "RoleLoom$Call" "RoleLoom$Does") ∈ lw_tbl := lw_at lw_m4 218 rfl
theorem q1014 : (Jvm.Cond.selects "RoleLoom$Call" ({ cls := "RoleLoom$Does", name := "fits", desc := "(LRoleLoom$Part;)Z" } : Jvm.MethodName) ({ cls := "RoleLoom$Call", name := "fits", desc := "(LRoleLoom$Part;)Z" } : Jvm.MethodName)) ∈ lw_all := lw_g (lw_at lw_m4 219 rfl) rfl
theorem q1015 : (Jvm.Cond.unhidden "RoleLoom$Call" "fits" "(LRoleLoom$Part;)Z") ∈ lw_tbl := lw_at lw_m4 220 rfl
theorem q1016 : (Jvm.Cond.instanceMethod ({ cls := "RoleLoom$Call", name := "fits", desc := "(LRoleLoom$Part;)Z" } : Jvm.MethodName)) ∈ lw_all := lw_g (lw_at lw_m4 221 rfl) rfl
theorem q1017 : (Jvm.Cond.publicMethod ({ cls := "RoleLoom$Call", name := "fits", desc := "(LRoleLoom$Part;)Z" } : Jvm.MethodName)) ∈ lw_tbl := lw_at lw_m4 222 rfl
theorem q1018 : (Jvm.Cond.code ({ cls := "RoleLoom$Call", name := "fits", desc := "(LRoleLoom$Part;)Z" } : Jvm.MethodName) prog_10_method_4_code (2 : Nat) (Option.some Jvm.ClassFile.FieldType.boolean)) ∈ lw_all := lw_g (lw_at lw_m4 223 rfl) rfl
theorem q1019 : (Jvm.Cond.methodLinkNest "RoleLoom$Call" (66 : Nat) ({ cls := "RoleLoom", name := "in", desc := "(III)Z" } : Jvm.MethodName) "RoleLoom") ∈ lw_tbl := lw_at lw_m4 224 rfl
theorem q1126 : (Jvm.Cond.fieldLinkNest "RoleLoom$Call" (35 : Nat) "RoleLoom$Role" "chains" "Ljava/util/ArrayList;" "RoleLoom") ∈ lw_tbl := lw_at lw_m5 91 rfl
theorem q1326 : (Jvm.Cond.declares ({ cls := "RoleLoom$Call", name := "on", desc := "(LRoleLoom$Frame;LRoleLoom$Thing;IJ)J" } : Jvm.MethodName)) ∈ lw_tbl := lw_at lw_m6 51 rfl
theorem q1328 : (Jvm.Cond.instanceMethod ({ cls := "RoleLoom$Call", name := "on", desc := "(LRoleLoom$Frame;LRoleLoom$Thing;IJ)J" } : Jvm.MethodName)) ∈ lw_all := lw_g (lw_at lw_m6 53 rfl) rfl
theorem q1329 : (Jvm.Cond.code ({ cls := "RoleLoom$Call", name := "on", desc := "(LRoleLoom$Frame;LRoleLoom$Thing;IJ)J" } : Jvm.MethodName) prog_10_method_3_code (7 : Nat) (Option.some Jvm.ClassFile.FieldType.long)) ∈ lw_all := lw_g (lw_at lw_m6 54 rfl) rfl
theorem q1330 : (Jvm.Cond.methodLink "RoleLoom$Call" (41 : Nat) ({ cls := "java/util/ArrayList", name := "get", desc := "(I)Ljava/lang/Object;" } : Jvm.MethodName)) ∈ lw_all := lw_g (lw_at lw_m6 55 rfl) rfl
theorem q1331 : (Jvm.Cond.classLink "RoleLoom$Call" (42 : Nat) "java/util/ArrayList") ∈ lw_all := lw_g (lw_at lw_m6 56 rfl) rfl
theorem q1332 : (Jvm.Cond.methodLink "RoleLoom$Call" (47 : Nat) ({ cls := "java/util/ArrayList", name := "isEmpty", desc := "()Z" } : Jvm.MethodName)) ∈ lw_all := lw_g (lw_at lw_m6 57 rfl) rfl
theorem q1333 : (Jvm.Cond.methodLinkNest "RoleLoom$Call" (51 : Nat) ({ cls := "RoleLoom", name := "thrown", desc := "(LRoleLoom$Frame;IJ)LRoleLoom$Thrown;" } : Jvm.MethodName) "RoleLoom") ∈ lw_tbl := lw_at lw_m6 58 rfl
theorem q1334 : (Jvm.Cond.methodLink "RoleLoom$Call" (55 : Nat) ({ cls := "java/util/ArrayList", name := "size", desc := "()I" } : Jvm.MethodName)) ∈ lw_all := lw_g (lw_at lw_m6 59 rfl) rfl
theorem q1335 : (Jvm.Cond.methodLinkNest "RoleLoom$Call" (62 : Nat) ({ cls := "RoleLoom", name := "run", desc := "(LRoleLoom$Thing;Ljava/util/ArrayList;IJI)J" } : Jvm.MethodName) "RoleLoom") ∈ lw_tbl := lw_at lw_m6 60 rfl
theorem q1346 : (Jvm.Cond.selects "RoleLoom$Call" ({ cls := "RoleLoom$Does", name := "act", desc := "(LRoleLoom$Frame;J)J" } : Jvm.MethodName) ({ cls := "RoleLoom$Call", name := "act", desc := "(LRoleLoom$Frame;J)J" } : Jvm.MethodName)) ∈ lw_all := lw_g (lw_at lw_m6 71 rfl) rfl
theorem q1347 : (Jvm.Cond.instanceMethod ({ cls := "RoleLoom$Call", name := "act", desc := "(LRoleLoom$Frame;J)J" } : Jvm.MethodName)) ∈ lw_all := lw_g (lw_at lw_m6 72 rfl) rfl
theorem q1348 : (Jvm.Cond.code ({ cls := "RoleLoom$Call", name := "act", desc := "(LRoleLoom$Frame;J)J" } : Jvm.MethodName) prog_10_method_2_code (4 : Nat) (Option.some Jvm.ClassFile.FieldType.long)) ∈ lw_all := lw_g (lw_at lw_m6 73 rfl) rfl
theorem q1349 : (Jvm.Cond.methodLink "RoleLoom$Call" (25 : Nat) ({ cls := "RoleLoom$Call", name := "on", desc := "(LRoleLoom$Frame;LRoleLoom$Thing;IJ)J" } : Jvm.MethodName)) ∈ lw_all := lw_g (lw_at lw_m6 74 rfl) rfl
theorem q1414 : (Jvm.Cond.fieldLinkNest "RoleLoom$Call" (29 : Nat) "RoleLoom$Thing" "role" "LRoleLoom$Role;" "RoleLoom") ∈ lw_tbl := lw_at lw_m6 139 rfl
theorem q2045 : (Jvm.Cond.sameMethod "RoleLoom$Call" "RoleLoom$Call" "on" "(LRoleLoom$Frame;LRoleLoom$Thing;IJ)J") ∈ lw_all := lw_g (lw_at lw_m9 50 rfl) rfl
theorem q2048 : (Jvm.Cond.selects "RoleLoom$Call" ({ cls := "RoleLoom$Call", name := "on", desc := "(LRoleLoom$Frame;LRoleLoom$Thing;IJ)J" } : Jvm.MethodName) ({ cls := "RoleLoom$Call", name := "on", desc := "(LRoleLoom$Frame;LRoleLoom$Thing;IJ)J" } : Jvm.MethodName)) ∈ lw_all := lw_g (lw_at lw_m9 53 rfl) rfl
theorem q2056 : (Jvm.Cond.castable "RoleLoom$Call" "RoleLoom$Act") ∈ lw_tbl := lw_at lw_m9 61 rfl
theorem q2087 : (Jvm.Cond.castable "RoleLoom$Call" "java/lang/Object") ∈ lw_tbl := lw_at lw_m9 92 rfl
theorem in_X17 : ∀ w ∈ wsX170, w ∈ lw_all := lw_in wsX170 [837, 838, 839, 835] (by decide +kernel) (by decide +kernel)
/-! RoleLoom$Alias -/
set_option maxRecDepth 100000
def RX18 : String := "RoleLoom$Alias"
def TX18 : u_T := fun k => match k with
  | 0 => ("RoleLoom$Act", "a", "I", true)
  | 1 => ("RoleLoom$Act", "b", "I", true)
  | 2 => ("RoleLoom$Act", "this$0", "LRoleLoom;", true)
  | 3 => ("RoleLoom$Call", "this$0", "LRoleLoom;", true)
  | _ => ("RoleLoom$Alias", "this$0", "LRoleLoom;", true)
def tyX18 : Nat → FieldType := fun k => match k with
  | 0 => .int
  | 1 => .int
  | 2 => .object "RoleLoom"
  | 3 => .object "RoleLoom"
  | _ => .object "RoleLoom"
abbrev wsX180 : List Cond := u_ws RX18 TX18 5
-- two fields of one name: no nmX18
theorem tyX18_ok : ∀ k, k < 5 → parseFieldDescriptor (TX18 k).2.2.1 = some (tyX18 k) := by decide +kernel
abbrev cX18_init : ByteArray := prog_4_method_1_code
def yX18_init : MethodName := ⟨RX18, "<init>", "(LRoleLoom;I)V"⟩
def dkwX18_init_0 : List UInt8 := [42, 43, 181, 0, 3, 42, 43, 28, 3, 183, 0, 9, 177]
abbrev dktX18_init_0 : List UInt8 := dkwX18_init_0 ++ []
theorem dksX18_init_0 : cX18_init.data.toList.drop 0 = dktX18_init_0 := by decide +kernel
theorem dX18_init_0 : decode cX18_init 0 = .ok (.aload_n 0, 1) := dk_42 (dk_at dksX18_init_0 0 rfl rfl)
theorem dX18_init_1 : decode cX18_init 1 = .ok (.aload_n 1, 1) := dk_43 (dk_at dksX18_init_0 1 rfl rfl)
theorem dX18_init_2 : decode cX18_init 2 = .ok (.putfield 3, 3) := dk_181 0 3 (dk_at dksX18_init_0 2 rfl rfl)
theorem dX18_init_5 : decode cX18_init 5 = .ok (.aload_n 0, 1) := dk_42 (dk_at dksX18_init_0 5 rfl rfl)
theorem dX18_init_6 : decode cX18_init 6 = .ok (.aload_n 1, 1) := dk_43 (dk_at dksX18_init_0 6 rfl rfl)
theorem dX18_init_7 : decode cX18_init 7 = .ok (.iload_n 2, 1) := dk_28 (dk_at dksX18_init_0 7 rfl rfl)
theorem dX18_init_8 : decode cX18_init 8 = .ok (.iconst 0, 1) := dk_3 (dk_at dksX18_init_0 8 rfl rfl)
theorem dX18_init_9 : decode cX18_init 9 = .ok (.invokespecial 9, 3) := dk_183 0 9 (dk_at dksX18_init_0 9 rfl rfl)
theorem dX18_init_12 : decode cX18_init 12 = .ok (.return_, 1) := dk_177 (dk_at dksX18_init_0 12 rfl rfl)
abbrev cX18_fits : ByteArray := prog_4_method_3_code
def yX18_fits : MethodName := ⟨RX18, "fits", "(LRoleLoom$Part;)Z"⟩
def dkwX18_fits_0 : List UInt8 := [42, 180, 0, 33, 3, 6, 184, 0, 67, 172]
abbrev dktX18_fits_0 : List UInt8 := dkwX18_fits_0 ++ []
theorem dksX18_fits_0 : cX18_fits.data.toList.drop 0 = dktX18_fits_0 := by decide +kernel
theorem dX18_fits_0 : decode cX18_fits 0 = .ok (.aload_n 0, 1) := dk_42 (dk_at dksX18_fits_0 0 rfl rfl)
theorem dX18_fits_1 : decode cX18_fits 1 = .ok (.getfield 33, 3) := dk_180 0 33 (dk_at dksX18_fits_0 1 rfl rfl)
theorem dX18_fits_4 : decode cX18_fits 4 = .ok (.iconst 0, 1) := dk_3 (dk_at dksX18_fits_0 4 rfl rfl)
theorem dX18_fits_5 : decode cX18_fits 5 = .ok (.iconst 3, 1) := dk_6 (dk_at dksX18_fits_0 5 rfl rfl)
theorem dX18_fits_6 : decode cX18_fits 6 = .ok (.invokestatic 67, 3) := dk_184 0 67 (dk_at dksX18_fits_0 6 rfl rfl)
theorem dX18_fits_9 : decode cX18_fits 9 = .ok (.ireturn, 1) := dk_172 (dk_at dksX18_fits_0 9 rfl rfl)
abbrev cX18_act : ByteArray := prog_4_method_2_code
def yX18_act : MethodName := ⟨RX18, "act", "(LRoleLoom$Frame;J)J"⟩
def dkwX18_act_4 : List UInt8 := [182, 0, 63, 173]
abbrev dktX18_act_4 : List UInt8 := dkwX18_act_4 ++ []
def dkwX18_act_3 : List UInt8 := [180, 0, 3, 43, 180, 0, 15, 25, 5, 25, 5, 25, 4, 182, 0, 56, 32, 43, 180, 0, 60, 4, 96]
abbrev dktX18_act_3 : List UInt8 := dkwX18_act_3 ++ dktX18_act_4
def dkwX18_act_2 : List UInt8 := [180, 0, 15, 180, 0, 21, 180, 0, 41, 25, 4, 180, 0, 45, 182, 0, 50, 192, 0, 51, 58, 5, 42]
abbrev dktX18_act_2 : List UInt8 := dkwX18_act_2 ++ dktX18_act_3
def dkwX18_act_1 : List UInt8 := [180, 0, 33, 50, 58, 4, 25, 4, 199, 0, 15, 42, 180, 0, 3, 43, 16, 12, 9, 182, 0, 37, 191, 43]
abbrev dktX18_act_1 : List UInt8 := dkwX18_act_1 ++ dktX18_act_2
def dkwX18_act_0 : List UInt8 := [43, 180, 0, 15, 199, 0, 7, 1, 167, 0, 18, 43, 180, 0, 15, 180, 0, 21, 180, 0, 27, 42]
abbrev dktX18_act_0 : List UInt8 := dkwX18_act_0 ++ dktX18_act_1
theorem dksX18_act_0 : cX18_act.data.toList.drop 0 = dktX18_act_0 := by decide +kernel
theorem dksX18_act_1 : cX18_act.data.toList.drop 22 = dktX18_act_1 := dk_seg dksX18_act_0 22 rfl rfl
theorem dksX18_act_2 : cX18_act.data.toList.drop 46 = dktX18_act_2 := dk_seg dksX18_act_1 24 rfl rfl
theorem dksX18_act_3 : cX18_act.data.toList.drop 69 = dktX18_act_3 := dk_seg dksX18_act_2 23 rfl rfl
theorem dksX18_act_4 : cX18_act.data.toList.drop 92 = dktX18_act_4 := dk_seg dksX18_act_3 23 rfl rfl
theorem dX18_act_0 : decode cX18_act 0 = .ok (.aload_n 1, 1) := dk_43 (dk_at dksX18_act_0 0 rfl rfl)
theorem dX18_act_1 : decode cX18_act 1 = .ok (.getfield 15, 3) := dk_180 0 15 (dk_at dksX18_act_0 1 rfl rfl)
theorem dX18_act_4 : decode cX18_act 4 = .ok (.ifnonnull 7, 3) := dk_199 0 7 (dk_at dksX18_act_0 4 rfl rfl)
theorem dX18_act_7 : decode cX18_act 7 = .ok (.aconst_null, 1) := dk_1 (dk_at dksX18_act_0 7 rfl rfl)
theorem dX18_act_8 : decode cX18_act 8 = .ok (.goto 18, 3) := dk_167 0 18 (dk_at dksX18_act_0 8 rfl rfl)
theorem dX18_act_11 : decode cX18_act 11 = .ok (.aload_n 1, 1) := dk_43 (dk_at dksX18_act_0 11 rfl rfl)
theorem dX18_act_12 : decode cX18_act 12 = .ok (.getfield 15, 3) := dk_180 0 15 (dk_at dksX18_act_0 12 rfl rfl)
theorem dX18_act_15 : decode cX18_act 15 = .ok (.getfield 21, 3) := dk_180 0 21 (dk_at dksX18_act_0 15 rfl rfl)
theorem dX18_act_18 : decode cX18_act 18 = .ok (.getfield 27, 3) := dk_180 0 27 (dk_at dksX18_act_0 18 rfl rfl)
theorem dX18_act_21 : decode cX18_act 21 = .ok (.aload_n 0, 1) := dk_42 (dk_at dksX18_act_0 21 rfl rfl)
theorem dX18_act_22 : decode cX18_act 22 = .ok (.getfield 33, 3) := dk_180 0 33 (dk_at dksX18_act_1 0 rfl rfl)
theorem dX18_act_25 : decode cX18_act 25 = .ok (.aaload, 1) := dk_50 (dk_at dksX18_act_1 3 rfl rfl)
theorem dX18_act_26 : decode cX18_act 26 = .ok (.astore 4, 2) := dk_58 4 (dk_at dksX18_act_1 4 rfl rfl)
theorem dX18_act_28 : decode cX18_act 28 = .ok (.aload 4, 2) := dk_25 4 (dk_at dksX18_act_1 6 rfl rfl)
theorem dX18_act_30 : decode cX18_act 30 = .ok (.ifnonnull 15, 3) := dk_199 0 15 (dk_at dksX18_act_1 8 rfl rfl)
theorem dX18_act_33 : decode cX18_act 33 = .ok (.aload_n 0, 1) := dk_42 (dk_at dksX18_act_1 11 rfl rfl)
theorem dX18_act_34 : decode cX18_act 34 = .ok (.getfield 3, 3) := dk_180 0 3 (dk_at dksX18_act_1 12 rfl rfl)
theorem dX18_act_37 : decode cX18_act 37 = .ok (.aload_n 1, 1) := dk_43 (dk_at dksX18_act_1 15 rfl rfl)
theorem dX18_act_38 : decode cX18_act 38 = .ok (.bipush 12, 2) := dk_16 12 (dk_at dksX18_act_1 16 rfl rfl)
theorem dX18_act_40 : decode cX18_act 40 = .ok (.lconst 0, 1) := dk_9 (dk_at dksX18_act_1 18 rfl rfl)
theorem dX18_act_41 : decode cX18_act 41 = .ok (.invokevirtual 37, 3) := dk_182 0 37 (dk_at dksX18_act_1 19 rfl rfl)
theorem dX18_act_44 : decode cX18_act 44 = .ok (.athrow, 1) := dk_191 (dk_at dksX18_act_1 22 rfl rfl)
theorem dX18_act_45 : decode cX18_act 45 = .ok (.aload_n 1, 1) := dk_43 (dk_at dksX18_act_1 23 rfl rfl)
theorem dX18_act_46 : decode cX18_act 46 = .ok (.getfield 15, 3) := dk_180 0 15 (dk_at dksX18_act_2 0 rfl rfl)
theorem dX18_act_49 : decode cX18_act 49 = .ok (.getfield 21, 3) := dk_180 0 21 (dk_at dksX18_act_2 3 rfl rfl)
theorem dX18_act_52 : decode cX18_act 52 = .ok (.getfield 41, 3) := dk_180 0 41 (dk_at dksX18_act_2 6 rfl rfl)
theorem dX18_act_55 : decode cX18_act 55 = .ok (.aload 4, 2) := dk_25 4 (dk_at dksX18_act_2 9 rfl rfl)
theorem dX18_act_57 : decode cX18_act 57 = .ok (.getfield 45, 3) := dk_180 0 45 (dk_at dksX18_act_2 11 rfl rfl)
theorem dX18_act_60 : decode cX18_act 60 = .ok (.invokevirtual 50, 3) := dk_182 0 50 (dk_at dksX18_act_2 14 rfl rfl)
theorem dX18_act_63 : decode cX18_act 63 = .ok (.checkcast 51, 3) := dk_192 0 51 (dk_at dksX18_act_2 17 rfl rfl)
theorem dX18_act_66 : decode cX18_act 66 = .ok (.astore 5, 2) := dk_58 5 (dk_at dksX18_act_2 20 rfl rfl)
theorem dX18_act_68 : decode cX18_act 68 = .ok (.aload_n 0, 1) := dk_42 (dk_at dksX18_act_2 22 rfl rfl)
theorem dX18_act_69 : decode cX18_act 69 = .ok (.getfield 3, 3) := dk_180 0 3 (dk_at dksX18_act_3 0 rfl rfl)
theorem dX18_act_72 : decode cX18_act 72 = .ok (.aload_n 1, 1) := dk_43 (dk_at dksX18_act_3 3 rfl rfl)
theorem dX18_act_73 : decode cX18_act 73 = .ok (.getfield 15, 3) := dk_180 0 15 (dk_at dksX18_act_3 4 rfl rfl)
theorem dX18_act_76 : decode cX18_act 76 = .ok (.aload 5, 2) := dk_25 5 (dk_at dksX18_act_3 7 rfl rfl)
theorem dX18_act_78 : decode cX18_act 78 = .ok (.aload 5, 2) := dk_25 5 (dk_at dksX18_act_3 9 rfl rfl)
theorem dX18_act_80 : decode cX18_act 80 = .ok (.aload 4, 2) := dk_25 4 (dk_at dksX18_act_3 11 rfl rfl)
theorem dX18_act_82 : decode cX18_act 82 = .ok (.invokevirtual 56, 3) := dk_182 0 56 (dk_at dksX18_act_3 13 rfl rfl)
theorem dX18_act_85 : decode cX18_act 85 = .ok (.lload_n 2, 1) := dk_32 (dk_at dksX18_act_3 16 rfl rfl)
theorem dX18_act_86 : decode cX18_act 86 = .ok (.aload_n 1, 1) := dk_43 (dk_at dksX18_act_3 17 rfl rfl)
theorem dX18_act_87 : decode cX18_act 87 = .ok (.getfield 60, 3) := dk_180 0 60 (dk_at dksX18_act_3 18 rfl rfl)
theorem dX18_act_90 : decode cX18_act 90 = .ok (.iconst 1, 1) := dk_4 (dk_at dksX18_act_3 21 rfl rfl)
theorem dX18_act_91 : decode cX18_act 91 = .ok (.iadd, 1) := dk_96 (dk_at dksX18_act_3 22 rfl rfl)
theorem dX18_act_92 : decode cX18_act 92 = .ok (.invokevirtual 63, 3) := dk_182 0 63 (dk_at dksX18_act_4 0 rfl rfl)
theorem dX18_act_95 : decode cX18_act 95 = .ok (.lreturn, 1) := dk_173 (dk_at dksX18_act_4 3 rfl rfl)
theorem q105 : (Jvm.Cond.initialized "RoleLoom$Alias") ∈ lw_all := lw_g (lw_at lw_m1 30 rfl) rfl
theorem q247 : (Jvm.Cond.fieldLinkNest "RoleLoom$Alias" (15 : Nat) "RoleLoom$Frame" "thing" "LRoleLoom$Thing;" "RoleLoom") ∈ lw_tbl := lw_at lw_m1 172 rfl
theorem q269 : (Jvm.Cond.fieldLinkNest "RoleLoom$Alias" (60 : Nat) "RoleLoom$Frame" "deep" "I" "RoleLoom") ∈ lw_tbl := lw_at lw_m1 194 rfl
theorem q502 : (Jvm.Cond.selects "RoleLoom$Alias" ({ cls := "java/lang/Object", name := "getClass", desc := "()Ljava/lang/Class;" } : Jvm.MethodName) ({ cls := "java/lang/Object", name := "getClass", desc := "()Ljava/lang/Class;" } : Jvm.MethodName)) ∈ lw_all := lw_g (lw_at lw_m2 187 rfl) rfl
theorem q585 : (Jvm.Cond.selects "RoleLoom$Alias" ({ cls := "java/lang/Object", name := "equals", desc := "(Ljava/lang/Object;)Z" } : Jvm.MethodName) ({ cls := "java/lang/Object", name := "equals", desc := "(Ljava/lang/Object;)Z" } : Jvm.MethodName)) ∈ lw_all := lw_g (lw_at lw_m3 30 rfl) rfl
theorem q637 : (Jvm.Cond.fieldLinkNest "RoleLoom$Alias" (45 : Nat) "RoleLoom$Body" "member" "I" "RoleLoom") ∈ lw_tbl := lw_at lw_m3 82 rfl
theorem q697 : (Jvm.Cond.fieldLink "RoleLoom$Alias" (33 : Nat) "RoleLoom$Alias" "a" "I") ∈ lw_all := lw_g (lw_at lw_m3 142 rfl) rfl
theorem q698 : (Jvm.Cond.sameField "RoleLoom$Alias" "RoleLoom$Act" "a" "I") ∈ lw_all := lw_g (lw_at lw_m3 143 rfl) rfl
theorem q842 : (Jvm.Cond.instantiable "RoleLoom$Alias" (5 : Nat)) ∈ lw_all := lw_g (lw_at lw_m4 47 rfl) rfl
theorem q844 : (Jvm.Cond.instanceMethod ({ cls := "RoleLoom$Alias", name := "<init>", desc := "(LRoleLoom;I)V" } : Jvm.MethodName)) ∈ lw_all := lw_g (lw_at lw_m4 49 rfl) rfl
theorem q845 : (Jvm.Cond.code ({ cls := "RoleLoom$Alias", name := "<init>", desc := "(LRoleLoom;I)V" } : Jvm.MethodName) prog_4_method_1_code (3 : Nat) (Option.none : Option Jvm.ClassFile.FieldType)) ∈ lw_all := lw_g (lw_at lw_m4 50 rfl) rfl
theorem q846 : (Jvm.Cond.methodLink "RoleLoom$Alias" (9 : Nat) ({ cls := "RoleLoom$Call", name := "<init>", desc := "(LRoleLoom;II)V" } : Jvm.MethodName)) ∈ lw_all := lw_g (lw_at lw_m4 51 rfl) rfl
theorem q847 : (Jvm.Cond.fieldLink "RoleLoom$Alias" (3 : Nat) "RoleLoom$Alias" "this$0" "LRoleLoom;") ∈ lw_all := lw_g (lw_at lw_m4 52 rfl) rfl
theorem q848 : (Jvm.Cond.laysFinal "RoleLoom$Alias" "RoleLoom$Alias" "this$0" "LRoleLoom;") ∈ lw_all := lw_g (lw_at lw_m4 53 rfl) rfl
theorem q849 : (Jvm.Cond.soleField "RoleLoom$Alias" "this$0") ∈ lw_all := lw_g (lw_at lw_m4 54 rfl) rfl
theorem q850 : (Jvm.Cond.laysFinal "RoleLoom$Alias" "RoleLoom$Call" "this$0" "LRoleLoom;") ∈ lw_all := lw_g (lw_at lw_m4 55 rfl) rfl
theorem q851 : (Jvm.Cond.laysFinal "RoleLoom$Alias" "RoleLoom$Act" "a" "I") ∈ lw_all := lw_g (lw_at lw_m4 56 rfl) rfl
theorem q852 : (Jvm.Cond.laysFinal "RoleLoom$Alias" "RoleLoom$Act" "b" "I") ∈ lw_all := lw_g (lw_at lw_m4 57 rfl) rfl
theorem q853 : (Jvm.Cond.laysFinal "RoleLoom$Alias" "RoleLoom$Act" "this$0" "LRoleLoom;") ∈ lw_all := lw_g (lw_at lw_m4 58 rfl) rfl
theorem q854 : (Jvm.Cond.superclass "RoleLoom$Alias" "RoleLoom$Call") ∈ lw_all := lw_g (lw_at lw_m4 59 rfl) rfl
theorem q976 : (Jvm.Cond.castable "RoleLoom$Alias" "RoleLoom$Does") ∈ lw_tbl := lw_at lw_m4 181 rfl
theorem q977 : (Jvm.Cond.selects "RoleLoom$Alias" ({ cls := "RoleLoom$Does", name := "fits", desc := "(LRoleLoom$Part;)Z" } : Jvm.MethodName) ({ cls := "RoleLoom$Alias", name := "fits", desc := "(LRoleLoom$Part;)Z" } : Jvm.MethodName)) ∈ lw_all := lw_g (lw_at lw_m4 182 rfl) rfl
theorem q978 : (Jvm.Cond.unhidden "RoleLoom$Alias" "fits" "(LRoleLoom$Part;)Z") ∈ lw_tbl := lw_at lw_m4 183 rfl
theorem q979 : (Jvm.Cond.instanceMethod ({ cls := "RoleLoom$Alias", name := "fits", desc := "(LRoleLoom$Part;)Z" } : Jvm.MethodName)) ∈ lw_all := lw_g (lw_at lw_m4 184 rfl) rfl
theorem q980 : (Jvm.Cond.publicMethod ({ cls := "RoleLoom$Alias", name := "fits", desc := "(LRoleLoom$Part;)Z" } : Jvm.MethodName)) ∈ lw_tbl := lw_at lw_m4 185 rfl
theorem q981 : (Jvm.Cond.code ({ cls := "RoleLoom$Alias", name := "fits", desc := "(LRoleLoom$Part;)Z" } : Jvm.MethodName) prog_4_method_3_code (2 : Nat) (Option.some Jvm.ClassFile.FieldType.boolean)) ∈ lw_all := lw_g (lw_at lw_m4 186 rfl) rfl
theorem q982 : (Jvm.Cond.methodLinkNest "RoleLoom$Alias" (67 : Nat) ({ cls := "RoleLoom", name := "in", desc := "(III)Z" } : Jvm.MethodName) "RoleLoom") ∈ lw_tbl := lw_at lw_m4 187 rfl
theorem q1125 : (Jvm.Cond.fieldLinkNest "RoleLoom$Alias" (41 : Nat) "RoleLoom$Role" "chains" "Ljava/util/ArrayList;" "RoleLoom") ∈ lw_tbl := lw_at lw_m5 90 rfl
theorem q1129 : (Jvm.Cond.fieldLinkNest "RoleLoom$Alias" (27 : Nat) "RoleLoom$Role" "aliases" "[LRoleLoom$Body;" "RoleLoom") ∈ lw_tbl := lw_at lw_m5 94 rfl
theorem q1294 : (Jvm.Cond.selects "RoleLoom$Alias" ({ cls := "RoleLoom$Does", name := "act", desc := "(LRoleLoom$Frame;J)J" } : Jvm.MethodName) ({ cls := "RoleLoom$Alias", name := "act", desc := "(LRoleLoom$Frame;J)J" } : Jvm.MethodName)) ∈ lw_all := lw_g (lw_at lw_m6 19 rfl) rfl
theorem q1295 : (Jvm.Cond.instanceMethod ({ cls := "RoleLoom$Alias", name := "act", desc := "(LRoleLoom$Frame;J)J" } : Jvm.MethodName)) ∈ lw_all := lw_g (lw_at lw_m6 20 rfl) rfl
theorem q1296 : (Jvm.Cond.code ({ cls := "RoleLoom$Alias", name := "act", desc := "(LRoleLoom$Frame;J)J" } : Jvm.MethodName) prog_4_method_2_code (6 : Nat) (Option.some Jvm.ClassFile.FieldType.long)) ∈ lw_all := lw_g (lw_at lw_m6 21 rfl) rfl
theorem q1297 : (Jvm.Cond.methodLinkNest "RoleLoom$Alias" (37 : Nat) ({ cls := "RoleLoom", name := "thrown", desc := "(LRoleLoom$Frame;IJ)LRoleLoom$Thrown;" } : Jvm.MethodName) "RoleLoom") ∈ lw_tbl := lw_at lw_m6 22 rfl
theorem q1301 : (Jvm.Cond.methodLink "RoleLoom$Alias" (50 : Nat) ({ cls := "java/util/ArrayList", name := "get", desc := "(I)Ljava/lang/Object;" } : Jvm.MethodName)) ∈ lw_all := lw_g (lw_at lw_m6 26 rfl) rfl
theorem q1302 : (Jvm.Cond.classLink "RoleLoom$Alias" (51 : Nat) "java/util/ArrayList") ∈ lw_all := lw_g (lw_at lw_m6 27 rfl) rfl
theorem q1303 : (Jvm.Cond.methodLink "RoleLoom$Alias" (56 : Nat) ({ cls := "java/util/ArrayList", name := "indexOf", desc := "(Ljava/lang/Object;)I" } : Jvm.MethodName)) ∈ lw_all := lw_g (lw_at lw_m6 28 rfl) rfl
theorem q1304 : (Jvm.Cond.methodLinkNest "RoleLoom$Alias" (63 : Nat) ({ cls := "RoleLoom", name := "run", desc := "(LRoleLoom$Thing;Ljava/util/ArrayList;IJI)J" } : Jvm.MethodName) "RoleLoom") ∈ lw_tbl := lw_at lw_m6 29 rfl
theorem q1412 : (Jvm.Cond.fieldLinkNest "RoleLoom$Alias" (21 : Nat) "RoleLoom$Thing" "role" "LRoleLoom$Role;" "RoleLoom") ∈ lw_tbl := lw_at lw_m6 137 rfl
theorem q2046 : (Jvm.Cond.selects "RoleLoom$Alias" ({ cls := "RoleLoom$Call", name := "on", desc := "(LRoleLoom$Frame;LRoleLoom$Thing;IJ)J" } : Jvm.MethodName) ({ cls := "RoleLoom$Call", name := "on", desc := "(LRoleLoom$Frame;LRoleLoom$Thing;IJ)J" } : Jvm.MethodName)) ∈ lw_all := lw_g (lw_at lw_m9 51 rfl) rfl
theorem q2051 : (Jvm.Cond.castable "RoleLoom$Alias" "RoleLoom$Act") ∈ lw_tbl := lw_at lw_m9 56 rfl
theorem q2088 : (Jvm.Cond.castable "RoleLoom$Alias" "java/lang/Object") ∈ lw_tbl := lw_at lw_m9 93 rfl
theorem in_X18 : ∀ w ∈ wsX180, w ∈ lw_all := lw_in wsX180 [851, 852, 853, 850, 848] (by decide +kernel) (by decide +kernel)
/-! RoleLoom$If -/
set_option maxRecDepth 100000
def RX19 : String := "RoleLoom$If"
def TX19 : u_T := fun k => match k with
  | 0 => ("RoleLoom$Act", "a", "I", true)
  | 1 => ("RoleLoom$Act", "b", "I", true)
  | 2 => ("RoleLoom$Act", "this$0", "LRoleLoom;", true)
  | _ => ("RoleLoom$If", "this$0", "LRoleLoom;", true)
def tyX19 : Nat → FieldType := fun k => match k with
  | 0 => .int
  | 1 => .int
  | 2 => .object "RoleLoom"
  | _ => .object "RoleLoom"
abbrev wsX190 : List Cond := u_ws RX19 TX19 4
-- two fields of one name: no nmX19
theorem tyX19_ok : ∀ k, k < 4 → parseFieldDescriptor (TX19 k).2.2.1 = some (tyX19 k) := by decide +kernel
abbrev cX19_init : ByteArray := prog_14_method_1_code
def yX19_init : MethodName := ⟨RX19, "<init>", "(LRoleLoom;I)V"⟩
def dkwX19_init_0 : List UInt8 := [42, 43, 181, 0, 3, 42, 43, 28, 3, 183, 0, 9, 177]
abbrev dktX19_init_0 : List UInt8 := dkwX19_init_0 ++ []
theorem dksX19_init_0 : cX19_init.data.toList.drop 0 = dktX19_init_0 := by decide +kernel
theorem dX19_init_0 : decode cX19_init 0 = .ok (.aload_n 0, 1) := dk_42 (dk_at dksX19_init_0 0 rfl rfl)
theorem dX19_init_1 : decode cX19_init 1 = .ok (.aload_n 1, 1) := dk_43 (dk_at dksX19_init_0 1 rfl rfl)
theorem dX19_init_2 : decode cX19_init 2 = .ok (.putfield 3, 3) := dk_181 0 3 (dk_at dksX19_init_0 2 rfl rfl)
theorem dX19_init_5 : decode cX19_init 5 = .ok (.aload_n 0, 1) := dk_42 (dk_at dksX19_init_0 5 rfl rfl)
theorem dX19_init_6 : decode cX19_init 6 = .ok (.aload_n 1, 1) := dk_43 (dk_at dksX19_init_0 6 rfl rfl)
theorem dX19_init_7 : decode cX19_init 7 = .ok (.iload_n 2, 1) := dk_28 (dk_at dksX19_init_0 7 rfl rfl)
theorem dX19_init_8 : decode cX19_init 8 = .ok (.iconst 0, 1) := dk_3 (dk_at dksX19_init_0 8 rfl rfl)
theorem dX19_init_9 : decode cX19_init 9 = .ok (.invokespecial 9, 3) := dk_183 0 9 (dk_at dksX19_init_0 9 rfl rfl)
theorem dX19_init_12 : decode cX19_init 12 = .ok (.return_, 1) := dk_177 (dk_at dksX19_init_0 12 rfl rfl)
abbrev cX19_fits : ByteArray := prog_14_method_3_code
def yX19_fits : MethodName := ⟨RX19, "fits", "(LRoleLoom$Part;)Z"⟩
def dkwX19_fits_0 : List UInt8 := [42, 180, 0, 21, 3, 16, 10, 184, 0, 24, 172]
abbrev dktX19_fits_0 : List UInt8 := dkwX19_fits_0 ++ []
theorem dksX19_fits_0 : cX19_fits.data.toList.drop 0 = dktX19_fits_0 := by decide +kernel
theorem dX19_fits_0 : decode cX19_fits 0 = .ok (.aload_n 0, 1) := dk_42 (dk_at dksX19_fits_0 0 rfl rfl)
theorem dX19_fits_1 : decode cX19_fits 1 = .ok (.getfield 21, 3) := dk_180 0 21 (dk_at dksX19_fits_0 1 rfl rfl)
theorem dX19_fits_4 : decode cX19_fits 4 = .ok (.iconst 0, 1) := dk_3 (dk_at dksX19_fits_0 4 rfl rfl)
theorem dX19_fits_5 : decode cX19_fits 5 = .ok (.bipush 10, 2) := dk_16 10 (dk_at dksX19_fits_0 5 rfl rfl)
theorem dX19_fits_7 : decode cX19_fits 7 = .ok (.invokestatic 24, 3) := dk_184 0 24 (dk_at dksX19_fits_0 7 rfl rfl)
theorem dX19_fits_10 : decode cX19_fits 10 = .ok (.ireturn, 1) := dk_172 (dk_at dksX19_fits_0 10 rfl rfl)
abbrev cX19_act : ByteArray := prog_14_method_2_code
def yX19_act : MethodName := ⟨RX19, "act", "(LRoleLoom$Frame;J)J"⟩
def dkwX19_act_1 : List UInt8 := [173]
abbrev dktX19_act_1 : List UInt8 := dkwX19_act_1 ++ []
def dkwX19_act_0 : List UInt8 := [43, 89, 180, 0, 15, 32, 9, 148, 154, 0, 10, 42, 180, 0, 21, 167, 0, 4, 3, 96, 181, 0, 15, 32]
abbrev dktX19_act_0 : List UInt8 := dkwX19_act_0 ++ dktX19_act_1
theorem dksX19_act_0 : cX19_act.data.toList.drop 0 = dktX19_act_0 := by decide +kernel
theorem dksX19_act_1 : cX19_act.data.toList.drop 24 = dktX19_act_1 := dk_seg dksX19_act_0 24 rfl rfl
theorem dX19_act_0 : decode cX19_act 0 = .ok (.aload_n 1, 1) := dk_43 (dk_at dksX19_act_0 0 rfl rfl)
theorem dX19_act_1 : decode cX19_act 1 = .ok (.dup, 1) := dk_89 (dk_at dksX19_act_0 1 rfl rfl)
theorem dX19_act_2 : decode cX19_act 2 = .ok (.getfield 15, 3) := dk_180 0 15 (dk_at dksX19_act_0 2 rfl rfl)
theorem dX19_act_5 : decode cX19_act 5 = .ok (.lload_n 2, 1) := dk_32 (dk_at dksX19_act_0 5 rfl rfl)
theorem dX19_act_6 : decode cX19_act 6 = .ok (.lconst 0, 1) := dk_9 (dk_at dksX19_act_0 6 rfl rfl)
theorem dX19_act_7 : decode cX19_act 7 = .ok (.lcmp, 1) := dk_148 (dk_at dksX19_act_0 7 rfl rfl)
theorem dX19_act_8 : decode cX19_act 8 = .ok (.ifCond .ne 10, 3) := dk_154 0 10 (dk_at dksX19_act_0 8 rfl rfl)
theorem dX19_act_11 : decode cX19_act 11 = .ok (.aload_n 0, 1) := dk_42 (dk_at dksX19_act_0 11 rfl rfl)
theorem dX19_act_12 : decode cX19_act 12 = .ok (.getfield 21, 3) := dk_180 0 21 (dk_at dksX19_act_0 12 rfl rfl)
theorem dX19_act_15 : decode cX19_act 15 = .ok (.goto 4, 3) := dk_167 0 4 (dk_at dksX19_act_0 15 rfl rfl)
theorem dX19_act_18 : decode cX19_act 18 = .ok (.iconst 0, 1) := dk_3 (dk_at dksX19_act_0 18 rfl rfl)
theorem dX19_act_19 : decode cX19_act 19 = .ok (.iadd, 1) := dk_96 (dk_at dksX19_act_0 19 rfl rfl)
theorem dX19_act_20 : decode cX19_act 20 = .ok (.putfield 15, 3) := dk_181 0 15 (dk_at dksX19_act_0 20 rfl rfl)
theorem dX19_act_23 : decode cX19_act 23 = .ok (.lload_n 2, 1) := dk_32 (dk_at dksX19_act_0 23 rfl rfl)
theorem dX19_act_24 : decode cX19_act 24 = .ok (.lreturn, 1) := dk_173 (dk_at dksX19_act_1 0 rfl rfl)
theorem q106 : (Jvm.Cond.initialized "RoleLoom$If") ∈ lw_all := lw_g (lw_at lw_m1 31 rfl) rfl
theorem q266 : (Jvm.Cond.fieldLinkNest "RoleLoom$If" (15 : Nat) "RoleLoom$Frame" "at" "I" "RoleLoom") ∈ lw_tbl := lw_at lw_m1 191 rfl
theorem q511 : (Jvm.Cond.selects "RoleLoom$If" ({ cls := "java/lang/Object", name := "getClass", desc := "()Ljava/lang/Class;" } : Jvm.MethodName) ({ cls := "java/lang/Object", name := "getClass", desc := "()Ljava/lang/Class;" } : Jvm.MethodName)) ∈ lw_all := lw_g (lw_at lw_m2 196 rfl) rfl
theorem q594 : (Jvm.Cond.selects "RoleLoom$If" ({ cls := "java/lang/Object", name := "equals", desc := "(Ljava/lang/Object;)Z" } : Jvm.MethodName) ({ cls := "java/lang/Object", name := "equals", desc := "(Ljava/lang/Object;)Z" } : Jvm.MethodName)) ∈ lw_all := lw_g (lw_at lw_m3 39 rfl) rfl
theorem q693 : (Jvm.Cond.fieldLink "RoleLoom$If" (21 : Nat) "RoleLoom$If" "a" "I") ∈ lw_all := lw_g (lw_at lw_m3 138 rfl) rfl
theorem q694 : (Jvm.Cond.sameField "RoleLoom$If" "RoleLoom$Act" "a" "I") ∈ lw_all := lw_g (lw_at lw_m3 139 rfl) rfl
theorem q856 : (Jvm.Cond.instantiable "RoleLoom$If" (4 : Nat)) ∈ lw_all := lw_g (lw_at lw_m4 61 rfl) rfl
theorem q858 : (Jvm.Cond.instanceMethod ({ cls := "RoleLoom$If", name := "<init>", desc := "(LRoleLoom;I)V" } : Jvm.MethodName)) ∈ lw_all := lw_g (lw_at lw_m4 63 rfl) rfl
theorem q859 : (Jvm.Cond.code ({ cls := "RoleLoom$If", name := "<init>", desc := "(LRoleLoom;I)V" } : Jvm.MethodName) prog_14_method_1_code (3 : Nat) (Option.none : Option Jvm.ClassFile.FieldType)) ∈ lw_all := lw_g (lw_at lw_m4 64 rfl) rfl
theorem q860 : (Jvm.Cond.methodLink "RoleLoom$If" (9 : Nat) ({ cls := "RoleLoom$Act", name := "<init>", desc := "(LRoleLoom;II)V" } : Jvm.MethodName)) ∈ lw_all := lw_g (lw_at lw_m4 65 rfl) rfl
theorem q861 : (Jvm.Cond.fieldLink "RoleLoom$If" (3 : Nat) "RoleLoom$If" "this$0" "LRoleLoom;") ∈ lw_all := lw_g (lw_at lw_m4 66 rfl) rfl
theorem q862 : (Jvm.Cond.laysFinal "RoleLoom$If" "RoleLoom$If" "this$0" "LRoleLoom;") ∈ lw_all := lw_g (lw_at lw_m4 67 rfl) rfl
theorem q863 : (Jvm.Cond.soleField "RoleLoom$If" "this$0") ∈ lw_all := lw_g (lw_at lw_m4 68 rfl) rfl
theorem q864 : (Jvm.Cond.laysFinal "RoleLoom$If" "RoleLoom$Act" "a" "I") ∈ lw_all := lw_g (lw_at lw_m4 69 rfl) rfl
theorem q865 : (Jvm.Cond.laysFinal "RoleLoom$If" "RoleLoom$Act" "b" "I") ∈ lw_all := lw_g (lw_at lw_m4 70 rfl) rfl
theorem q866 : (Jvm.Cond.laysFinal "RoleLoom$If" "RoleLoom$Act" "this$0" "LRoleLoom;") ∈ lw_all := lw_g (lw_at lw_m4 71 rfl) rfl
theorem q867 : (Jvm.Cond.superclass "RoleLoom$If" "RoleLoom$Act") ∈ lw_all := lw_g (lw_at lw_m4 72 rfl) rfl
theorem q1027 : (Jvm.Cond.castable "RoleLoom$If" "RoleLoom$Does") ∈ lw_tbl := lw_at lw_m4 232 rfl
theorem q1028 : (Jvm.Cond.selects "RoleLoom$If" ({ cls := "RoleLoom$Does", name := "fits", desc := "(LRoleLoom$Part;)Z" } : Jvm.MethodName) ({ cls := "RoleLoom$If", name := "fits", desc := "(LRoleLoom$Part;)Z" } : Jvm.MethodName)) ∈ lw_all := lw_g (lw_at lw_m4 233 rfl) rfl
theorem q1029 : (Jvm.Cond.unhidden "RoleLoom$If" "fits" "(LRoleLoom$Part;)Z") ∈ lw_tbl := lw_at lw_m4 234 rfl
theorem q1030 : (Jvm.Cond.instanceMethod ({ cls := "RoleLoom$If", name := "fits", desc := "(LRoleLoom$Part;)Z" } : Jvm.MethodName)) ∈ lw_all := lw_g (lw_at lw_m4 235 rfl) rfl
theorem q1031 : (Jvm.Cond.publicMethod ({ cls := "RoleLoom$If", name := "fits", desc := "(LRoleLoom$Part;)Z" } : Jvm.MethodName)) ∈ lw_tbl := lw_at lw_m4 236 rfl
theorem q1032 : (Jvm.Cond.code ({ cls := "RoleLoom$If", name := "fits", desc := "(LRoleLoom$Part;)Z" } : Jvm.MethodName) prog_14_method_3_code (2 : Nat) (Option.some Jvm.ClassFile.FieldType.boolean)) ∈ lw_all := lw_g (lw_at lw_m4 237 rfl) rfl
theorem q1033 : (Jvm.Cond.methodLinkNest "RoleLoom$If" (24 : Nat) ({ cls := "RoleLoom", name := "in", desc := "(III)Z" } : Jvm.MethodName) "RoleLoom") ∈ lw_tbl := lw_at lw_m4 238 rfl
theorem q1353 : (Jvm.Cond.selects "RoleLoom$If" ({ cls := "RoleLoom$Does", name := "act", desc := "(LRoleLoom$Frame;J)J" } : Jvm.MethodName) ({ cls := "RoleLoom$If", name := "act", desc := "(LRoleLoom$Frame;J)J" } : Jvm.MethodName)) ∈ lw_all := lw_g (lw_at lw_m6 78 rfl) rfl
theorem q1354 : (Jvm.Cond.instanceMethod ({ cls := "RoleLoom$If", name := "act", desc := "(LRoleLoom$Frame;J)J" } : Jvm.MethodName)) ∈ lw_all := lw_g (lw_at lw_m6 79 rfl) rfl
theorem q1355 : (Jvm.Cond.code ({ cls := "RoleLoom$If", name := "act", desc := "(LRoleLoom$Frame;J)J" } : Jvm.MethodName) prog_14_method_2_code (4 : Nat) (Option.some Jvm.ClassFile.FieldType.long)) ∈ lw_all := lw_g (lw_at lw_m6 80 rfl) rfl
theorem q2058 : (Jvm.Cond.castable "RoleLoom$If" "RoleLoom$Act") ∈ lw_tbl := lw_at lw_m9 63 rfl
theorem q2089 : (Jvm.Cond.castable "RoleLoom$If" "java/lang/Object") ∈ lw_tbl := lw_at lw_m9 94 rfl
theorem in_X19 : ∀ w ∈ wsX190, w ∈ lw_all := lw_in wsX190 [864, 865, 866, 862] (by decide +kernel) (by decide +kernel)
/-! RoleLoom$Throw -/
set_option maxRecDepth 100000
def RX20 : String := "RoleLoom$Throw"
def TX20 : u_T := fun k => match k with
  | 0 => ("RoleLoom$Act", "a", "I", true)
  | 1 => ("RoleLoom$Act", "b", "I", true)
  | 2 => ("RoleLoom$Act", "this$0", "LRoleLoom;", true)
  | _ => ("RoleLoom$Throw", "this$0", "LRoleLoom;", true)
def tyX20 : Nat → FieldType := fun k => match k with
  | 0 => .int
  | 1 => .int
  | 2 => .object "RoleLoom"
  | _ => .object "RoleLoom"
abbrev wsX200 : List Cond := u_ws RX20 TX20 4
-- two fields of one name: no nmX20
theorem tyX20_ok : ∀ k, k < 4 → parseFieldDescriptor (TX20 k).2.2.1 = some (tyX20 k) := by decide +kernel
abbrev cX20_init : ByteArray := prog_28_method_1_code
def yX20_init : MethodName := ⟨RX20, "<init>", "(LRoleLoom;I)V"⟩
def dkwX20_init_0 : List UInt8 := [42, 43, 181, 0, 1, 42, 43, 28, 3, 183, 0, 7, 177]
abbrev dktX20_init_0 : List UInt8 := dkwX20_init_0 ++ []
theorem dksX20_init_0 : cX20_init.data.toList.drop 0 = dktX20_init_0 := by decide +kernel
theorem dX20_init_0 : decode cX20_init 0 = .ok (.aload_n 0, 1) := dk_42 (dk_at dksX20_init_0 0 rfl rfl)
theorem dX20_init_1 : decode cX20_init 1 = .ok (.aload_n 1, 1) := dk_43 (dk_at dksX20_init_0 1 rfl rfl)
theorem dX20_init_2 : decode cX20_init 2 = .ok (.putfield 1, 3) := dk_181 0 1 (dk_at dksX20_init_0 2 rfl rfl)
theorem dX20_init_5 : decode cX20_init 5 = .ok (.aload_n 0, 1) := dk_42 (dk_at dksX20_init_0 5 rfl rfl)
theorem dX20_init_6 : decode cX20_init 6 = .ok (.aload_n 1, 1) := dk_43 (dk_at dksX20_init_0 6 rfl rfl)
theorem dX20_init_7 : decode cX20_init 7 = .ok (.iload_n 2, 1) := dk_28 (dk_at dksX20_init_0 7 rfl rfl)
theorem dX20_init_8 : decode cX20_init 8 = .ok (.iconst 0, 1) := dk_3 (dk_at dksX20_init_0 8 rfl rfl)
theorem dX20_init_9 : decode cX20_init 9 = .ok (.invokespecial 7, 3) := dk_183 0 7 (dk_at dksX20_init_0 9 rfl rfl)
theorem dX20_init_12 : decode cX20_init 12 = .ok (.return_, 1) := dk_177 (dk_at dksX20_init_0 12 rfl rfl)
abbrev cX20_fits : ByteArray := prog_28_method_3_code
def yX20_fits : MethodName := ⟨RX20, "fits", "(LRoleLoom$Part;)Z"⟩
def dkwX20_fits_0 : List UInt8 := [42, 180, 0, 13, 3, 16, 9, 184, 0, 23, 172]
abbrev dktX20_fits_0 : List UInt8 := dkwX20_fits_0 ++ []
theorem dksX20_fits_0 : cX20_fits.data.toList.drop 0 = dktX20_fits_0 := by decide +kernel
theorem dX20_fits_0 : decode cX20_fits 0 = .ok (.aload_n 0, 1) := dk_42 (dk_at dksX20_fits_0 0 rfl rfl)
theorem dX20_fits_1 : decode cX20_fits 1 = .ok (.getfield 13, 3) := dk_180 0 13 (dk_at dksX20_fits_0 1 rfl rfl)
theorem dX20_fits_4 : decode cX20_fits 4 = .ok (.iconst 0, 1) := dk_3 (dk_at dksX20_fits_0 4 rfl rfl)
theorem dX20_fits_5 : decode cX20_fits 5 = .ok (.bipush 9, 2) := dk_16 9 (dk_at dksX20_fits_0 5 rfl rfl)
theorem dX20_fits_7 : decode cX20_fits 7 = .ok (.invokestatic 23, 3) := dk_184 0 23 (dk_at dksX20_fits_0 7 rfl rfl)
theorem dX20_fits_10 : decode cX20_fits 10 = .ok (.ireturn, 1) := dk_172 (dk_at dksX20_fits_0 10 rfl rfl)
abbrev cX20_act : ByteArray := prog_28_method_2_code
def yX20_act : MethodName := ⟨RX20, "act", "(LRoleLoom$Frame;J)J"⟩
def dkwX20_act_0 : List UInt8 := [42, 180, 0, 1, 43, 42, 180, 0, 13, 32, 182, 0, 17, 191]
abbrev dktX20_act_0 : List UInt8 := dkwX20_act_0 ++ []
theorem dksX20_act_0 : cX20_act.data.toList.drop 0 = dktX20_act_0 := by decide +kernel
theorem dX20_act_0 : decode cX20_act 0 = .ok (.aload_n 0, 1) := dk_42 (dk_at dksX20_act_0 0 rfl rfl)
theorem dX20_act_1 : decode cX20_act 1 = .ok (.getfield 1, 3) := dk_180 0 1 (dk_at dksX20_act_0 1 rfl rfl)
theorem dX20_act_4 : decode cX20_act 4 = .ok (.aload_n 1, 1) := dk_43 (dk_at dksX20_act_0 4 rfl rfl)
theorem dX20_act_5 : decode cX20_act 5 = .ok (.aload_n 0, 1) := dk_42 (dk_at dksX20_act_0 5 rfl rfl)
theorem dX20_act_6 : decode cX20_act 6 = .ok (.getfield 13, 3) := dk_180 0 13 (dk_at dksX20_act_0 6 rfl rfl)
theorem dX20_act_9 : decode cX20_act 9 = .ok (.lload_n 2, 1) := dk_32 (dk_at dksX20_act_0 9 rfl rfl)
theorem dX20_act_10 : decode cX20_act 10 = .ok (.invokevirtual 17, 3) := dk_182 0 17 (dk_at dksX20_act_0 10 rfl rfl)
theorem dX20_act_13 : decode cX20_act 13 = .ok (.athrow, 1) := dk_191 (dk_at dksX20_act_0 13 rfl rfl)
theorem q107 : (Jvm.Cond.initialized "RoleLoom$Throw") ∈ lw_all := lw_g (lw_at lw_m1 32 rfl) rfl
theorem q525 : (Jvm.Cond.selects "RoleLoom$Throw" ({ cls := "java/lang/Object", name := "getClass", desc := "()Ljava/lang/Class;" } : Jvm.MethodName) ({ cls := "java/lang/Object", name := "getClass", desc := "()Ljava/lang/Class;" } : Jvm.MethodName)) ∈ lw_all := lw_g (lw_at lw_m2 210 rfl) rfl
theorem q608 : (Jvm.Cond.selects "RoleLoom$Throw" ({ cls := "java/lang/Object", name := "equals", desc := "(Ljava/lang/Object;)Z" } : Jvm.MethodName) ({ cls := "java/lang/Object", name := "equals", desc := "(Ljava/lang/Object;)Z" } : Jvm.MethodName)) ∈ lw_all := lw_g (lw_at lw_m3 53 rfl) rfl
theorem q679 : (Jvm.Cond.fieldLink "RoleLoom$Throw" (13 : Nat) "RoleLoom$Throw" "a" "I") ∈ lw_all := lw_g (lw_at lw_m3 124 rfl) rfl
theorem q680 : (Jvm.Cond.sameField "RoleLoom$Throw" "RoleLoom$Act" "a" "I") ∈ lw_all := lw_g (lw_at lw_m3 125 rfl) rfl
theorem q869 : (Jvm.Cond.instantiable "RoleLoom$Throw" (4 : Nat)) ∈ lw_all := lw_g (lw_at lw_m4 74 rfl) rfl
theorem q871 : (Jvm.Cond.instanceMethod ({ cls := "RoleLoom$Throw", name := "<init>", desc := "(LRoleLoom;I)V" } : Jvm.MethodName)) ∈ lw_all := lw_g (lw_at lw_m4 76 rfl) rfl
theorem q872 : (Jvm.Cond.code ({ cls := "RoleLoom$Throw", name := "<init>", desc := "(LRoleLoom;I)V" } : Jvm.MethodName) prog_28_method_1_code (3 : Nat) (Option.none : Option Jvm.ClassFile.FieldType)) ∈ lw_all := lw_g (lw_at lw_m4 77 rfl) rfl
theorem q873 : (Jvm.Cond.methodLink "RoleLoom$Throw" (7 : Nat) ({ cls := "RoleLoom$Act", name := "<init>", desc := "(LRoleLoom;II)V" } : Jvm.MethodName)) ∈ lw_all := lw_g (lw_at lw_m4 78 rfl) rfl
theorem q874 : (Jvm.Cond.fieldLink "RoleLoom$Throw" (1 : Nat) "RoleLoom$Throw" "this$0" "LRoleLoom;") ∈ lw_all := lw_g (lw_at lw_m4 79 rfl) rfl
theorem q875 : (Jvm.Cond.laysFinal "RoleLoom$Throw" "RoleLoom$Throw" "this$0" "LRoleLoom;") ∈ lw_all := lw_g (lw_at lw_m4 80 rfl) rfl
theorem q876 : (Jvm.Cond.soleField "RoleLoom$Throw" "this$0") ∈ lw_all := lw_g (lw_at lw_m4 81 rfl) rfl
theorem q877 : (Jvm.Cond.laysFinal "RoleLoom$Throw" "RoleLoom$Act" "a" "I") ∈ lw_all := lw_g (lw_at lw_m4 82 rfl) rfl
theorem q878 : (Jvm.Cond.laysFinal "RoleLoom$Throw" "RoleLoom$Act" "b" "I") ∈ lw_all := lw_g (lw_at lw_m4 83 rfl) rfl
theorem q879 : (Jvm.Cond.laysFinal "RoleLoom$Throw" "RoleLoom$Act" "this$0" "LRoleLoom;") ∈ lw_all := lw_g (lw_at lw_m4 84 rfl) rfl
theorem q880 : (Jvm.Cond.superclass "RoleLoom$Throw" "RoleLoom$Act") ∈ lw_all := lw_g (lw_at lw_m4 85 rfl) rfl
theorem q1065 : (Jvm.Cond.castable "RoleLoom$Throw" "RoleLoom$Does") ∈ lw_tbl := lw_at lw_m5 30 rfl
theorem q1066 : (Jvm.Cond.selects "RoleLoom$Throw" ({ cls := "RoleLoom$Does", name := "fits", desc := "(LRoleLoom$Part;)Z" } : Jvm.MethodName) ({ cls := "RoleLoom$Throw", name := "fits", desc := "(LRoleLoom$Part;)Z" } : Jvm.MethodName)) ∈ lw_all := lw_g (lw_at lw_m5 31 rfl) rfl
theorem q1067 : (Jvm.Cond.unhidden "RoleLoom$Throw" "fits" "(LRoleLoom$Part;)Z") ∈ lw_tbl := lw_at lw_m5 32 rfl
theorem q1068 : (Jvm.Cond.instanceMethod ({ cls := "RoleLoom$Throw", name := "fits", desc := "(LRoleLoom$Part;)Z" } : Jvm.MethodName)) ∈ lw_all := lw_g (lw_at lw_m5 33 rfl) rfl
theorem q1069 : (Jvm.Cond.publicMethod ({ cls := "RoleLoom$Throw", name := "fits", desc := "(LRoleLoom$Part;)Z" } : Jvm.MethodName)) ∈ lw_tbl := lw_at lw_m5 34 rfl
theorem q1070 : (Jvm.Cond.code ({ cls := "RoleLoom$Throw", name := "fits", desc := "(LRoleLoom$Part;)Z" } : Jvm.MethodName) prog_28_method_3_code (2 : Nat) (Option.some Jvm.ClassFile.FieldType.boolean)) ∈ lw_all := lw_g (lw_at lw_m5 35 rfl) rfl
theorem q1071 : (Jvm.Cond.methodLinkNest "RoleLoom$Throw" (23 : Nat) ({ cls := "RoleLoom", name := "in", desc := "(III)Z" } : Jvm.MethodName) "RoleLoom") ∈ lw_tbl := lw_at lw_m5 36 rfl
theorem q1390 : (Jvm.Cond.selects "RoleLoom$Throw" ({ cls := "RoleLoom$Does", name := "act", desc := "(LRoleLoom$Frame;J)J" } : Jvm.MethodName) ({ cls := "RoleLoom$Throw", name := "act", desc := "(LRoleLoom$Frame;J)J" } : Jvm.MethodName)) ∈ lw_all := lw_g (lw_at lw_m6 115 rfl) rfl
theorem q1391 : (Jvm.Cond.instanceMethod ({ cls := "RoleLoom$Throw", name := "act", desc := "(LRoleLoom$Frame;J)J" } : Jvm.MethodName)) ∈ lw_all := lw_g (lw_at lw_m6 116 rfl) rfl
theorem q1392 : (Jvm.Cond.code ({ cls := "RoleLoom$Throw", name := "act", desc := "(LRoleLoom$Frame;J)J" } : Jvm.MethodName) prog_28_method_2_code (4 : Nat) (Option.some Jvm.ClassFile.FieldType.long)) ∈ lw_all := lw_g (lw_at lw_m6 117 rfl) rfl
theorem q1393 : (Jvm.Cond.methodLinkNest "RoleLoom$Throw" (17 : Nat) ({ cls := "RoleLoom", name := "thrown", desc := "(LRoleLoom$Frame;IJ)LRoleLoom$Thrown;" } : Jvm.MethodName) "RoleLoom") ∈ lw_tbl := lw_at lw_m6 118 rfl
theorem q2067 : (Jvm.Cond.castable "RoleLoom$Throw" "RoleLoom$Act") ∈ lw_tbl := lw_at lw_m9 72 rfl
theorem q2090 : (Jvm.Cond.castable "RoleLoom$Throw" "java/lang/Object") ∈ lw_tbl := lw_at lw_m9 95 rfl
theorem in_X20 : ∀ w ∈ wsX200, w ∈ lw_all := lw_in wsX200 [877, 878, 879, 875] (by decide +kernel) (by decide +kernel)
/-! RoleLoom$Mark -/
set_option maxRecDepth 100000
def RX21 : String := "RoleLoom$Mark"
def TX21 : u_T := fun k => match k with
  | 0 => ("RoleLoom$Act", "a", "I", true)
  | 1 => ("RoleLoom$Act", "b", "I", true)
  | 2 => ("RoleLoom$Act", "this$0", "LRoleLoom;", true)
  | _ => ("RoleLoom$Mark", "this$0", "LRoleLoom;", true)
def tyX21 : Nat → FieldType := fun k => match k with
  | 0 => .int
  | 1 => .int
  | 2 => .object "RoleLoom"
  | _ => .object "RoleLoom"
abbrev wsX210 : List Cond := u_ws RX21 TX21 4
-- two fields of one name: no nmX21
theorem tyX21_ok : ∀ k, k < 4 → parseFieldDescriptor (TX21 k).2.2.1 = some (tyX21 k) := by decide +kernel
abbrev cX21_init : ByteArray := prog_17_method_1_code
def yX21_init : MethodName := ⟨RX21, "<init>", "(LRoleLoom;)V"⟩
def dkwX21_init_0 : List UInt8 := [42, 43, 181, 0, 3, 42, 43, 3, 3, 183, 0, 9, 177]
abbrev dktX21_init_0 : List UInt8 := dkwX21_init_0 ++ []
theorem dksX21_init_0 : cX21_init.data.toList.drop 0 = dktX21_init_0 := by decide +kernel
theorem dX21_init_0 : decode cX21_init 0 = .ok (.aload_n 0, 1) := dk_42 (dk_at dksX21_init_0 0 rfl rfl)
theorem dX21_init_1 : decode cX21_init 1 = .ok (.aload_n 1, 1) := dk_43 (dk_at dksX21_init_0 1 rfl rfl)
theorem dX21_init_2 : decode cX21_init 2 = .ok (.putfield 3, 3) := dk_181 0 3 (dk_at dksX21_init_0 2 rfl rfl)
theorem dX21_init_5 : decode cX21_init 5 = .ok (.aload_n 0, 1) := dk_42 (dk_at dksX21_init_0 5 rfl rfl)
theorem dX21_init_6 : decode cX21_init 6 = .ok (.aload_n 1, 1) := dk_43 (dk_at dksX21_init_0 6 rfl rfl)
theorem dX21_init_7 : decode cX21_init 7 = .ok (.iconst 0, 1) := dk_3 (dk_at dksX21_init_0 7 rfl rfl)
theorem dX21_init_8 : decode cX21_init 8 = .ok (.iconst 0, 1) := dk_3 (dk_at dksX21_init_0 8 rfl rfl)
theorem dX21_init_9 : decode cX21_init 9 = .ok (.invokespecial 9, 3) := dk_183 0 9 (dk_at dksX21_init_0 9 rfl rfl)
theorem dX21_init_12 : decode cX21_init 12 = .ok (.return_, 1) := dk_177 (dk_at dksX21_init_0 12 rfl rfl)
abbrev cX21_act : ByteArray := prog_17_method_2_code
def yX21_act : MethodName := ⟨RX21, "act", "(LRoleLoom$Frame;J)J"⟩
def dkwX21_act_1 : List UInt8 := [180, 0, 15, 32, 80, 42, 180, 0, 3, 89, 180, 0, 15, 4, 96, 181, 0, 15, 32, 173]
abbrev dktX21_act_1 : List UInt8 := dkwX21_act_1 ++ []
def dkwX21_act_0 : List UInt8 := [42, 180, 0, 3, 180, 0, 15, 16, 100, 162, 0, 19, 42, 180, 0, 3, 180, 0, 19, 42, 180, 0, 3]
abbrev dktX21_act_0 : List UInt8 := dkwX21_act_0 ++ dktX21_act_1
theorem dksX21_act_0 : cX21_act.data.toList.drop 0 = dktX21_act_0 := by decide +kernel
theorem dksX21_act_1 : cX21_act.data.toList.drop 23 = dktX21_act_1 := dk_seg dksX21_act_0 23 rfl rfl
theorem dX21_act_0 : decode cX21_act 0 = .ok (.aload_n 0, 1) := dk_42 (dk_at dksX21_act_0 0 rfl rfl)
theorem dX21_act_1 : decode cX21_act 1 = .ok (.getfield 3, 3) := dk_180 0 3 (dk_at dksX21_act_0 1 rfl rfl)
theorem dX21_act_4 : decode cX21_act 4 = .ok (.getfield 15, 3) := dk_180 0 15 (dk_at dksX21_act_0 4 rfl rfl)
theorem dX21_act_7 : decode cX21_act 7 = .ok (.bipush 100, 2) := dk_16 100 (dk_at dksX21_act_0 7 rfl rfl)
theorem dX21_act_9 : decode cX21_act 9 = .ok (.if_icmp .ge 19, 3) := dk_162 0 19 (dk_at dksX21_act_0 9 rfl rfl)
theorem dX21_act_12 : decode cX21_act 12 = .ok (.aload_n 0, 1) := dk_42 (dk_at dksX21_act_0 12 rfl rfl)
theorem dX21_act_13 : decode cX21_act 13 = .ok (.getfield 3, 3) := dk_180 0 3 (dk_at dksX21_act_0 13 rfl rfl)
theorem dX21_act_16 : decode cX21_act 16 = .ok (.getfield 19, 3) := dk_180 0 19 (dk_at dksX21_act_0 16 rfl rfl)
theorem dX21_act_19 : decode cX21_act 19 = .ok (.aload_n 0, 1) := dk_42 (dk_at dksX21_act_0 19 rfl rfl)
theorem dX21_act_20 : decode cX21_act 20 = .ok (.getfield 3, 3) := dk_180 0 3 (dk_at dksX21_act_0 20 rfl rfl)
theorem dX21_act_23 : decode cX21_act 23 = .ok (.getfield 15, 3) := dk_180 0 15 (dk_at dksX21_act_1 0 rfl rfl)
theorem dX21_act_26 : decode cX21_act 26 = .ok (.lload_n 2, 1) := dk_32 (dk_at dksX21_act_1 3 rfl rfl)
theorem dX21_act_27 : decode cX21_act 27 = .ok (.lastore, 1) := dk_80 (dk_at dksX21_act_1 4 rfl rfl)
theorem dX21_act_28 : decode cX21_act 28 = .ok (.aload_n 0, 1) := dk_42 (dk_at dksX21_act_1 5 rfl rfl)
theorem dX21_act_29 : decode cX21_act 29 = .ok (.getfield 3, 3) := dk_180 0 3 (dk_at dksX21_act_1 6 rfl rfl)
theorem dX21_act_32 : decode cX21_act 32 = .ok (.dup, 1) := dk_89 (dk_at dksX21_act_1 9 rfl rfl)
theorem dX21_act_33 : decode cX21_act 33 = .ok (.getfield 15, 3) := dk_180 0 15 (dk_at dksX21_act_1 10 rfl rfl)
theorem dX21_act_36 : decode cX21_act 36 = .ok (.iconst 1, 1) := dk_4 (dk_at dksX21_act_1 13 rfl rfl)
theorem dX21_act_37 : decode cX21_act 37 = .ok (.iadd, 1) := dk_96 (dk_at dksX21_act_1 14 rfl rfl)
theorem dX21_act_38 : decode cX21_act 38 = .ok (.putfield 15, 3) := dk_181 0 15 (dk_at dksX21_act_1 15 rfl rfl)
theorem dX21_act_41 : decode cX21_act 41 = .ok (.lload_n 2, 1) := dk_32 (dk_at dksX21_act_1 18 rfl rfl)
theorem dX21_act_42 : decode cX21_act 42 = .ok (.lreturn, 1) := dk_173 (dk_at dksX21_act_1 19 rfl rfl)
theorem q108 : (Jvm.Cond.initialized "RoleLoom$Mark") ∈ lw_all := lw_g (lw_at lw_m1 33 rfl) rfl
theorem q328 : (Jvm.Cond.fieldLinkNest "RoleLoom$Mark" (19 : Nat) "RoleLoom" "marked" "[J" "RoleLoom") ∈ lw_tbl := lw_at lw_m2 13 rfl
theorem q330 : (Jvm.Cond.fieldLinkNest "RoleLoom$Mark" (15 : Nat) "RoleLoom" "markMany" "I" "RoleLoom") ∈ lw_tbl := lw_at lw_m2 15 rfl
theorem q514 : (Jvm.Cond.selects "RoleLoom$Mark" ({ cls := "java/lang/Object", name := "getClass", desc := "()Ljava/lang/Class;" } : Jvm.MethodName) ({ cls := "java/lang/Object", name := "getClass", desc := "()Ljava/lang/Class;" } : Jvm.MethodName)) ∈ lw_all := lw_g (lw_at lw_m2 199 rfl) rfl
theorem q597 : (Jvm.Cond.selects "RoleLoom$Mark" ({ cls := "java/lang/Object", name := "equals", desc := "(Ljava/lang/Object;)Z" } : Jvm.MethodName) ({ cls := "java/lang/Object", name := "equals", desc := "(Ljava/lang/Object;)Z" } : Jvm.MethodName)) ∈ lw_all := lw_g (lw_at lw_m3 42 rfl) rfl
theorem q882 : (Jvm.Cond.instantiable "RoleLoom$Mark" (4 : Nat)) ∈ lw_all := lw_g (lw_at lw_m4 87 rfl) rfl
theorem q884 : (Jvm.Cond.instanceMethod ({ cls := "RoleLoom$Mark", name := "<init>", desc := "(LRoleLoom;)V" } : Jvm.MethodName)) ∈ lw_all := lw_g (lw_at lw_m4 89 rfl) rfl
theorem q885 : (Jvm.Cond.code ({ cls := "RoleLoom$Mark", name := "<init>", desc := "(LRoleLoom;)V" } : Jvm.MethodName) prog_17_method_1_code (2 : Nat) (Option.none : Option Jvm.ClassFile.FieldType)) ∈ lw_all := lw_g (lw_at lw_m4 90 rfl) rfl
theorem q886 : (Jvm.Cond.methodLink "RoleLoom$Mark" (9 : Nat) ({ cls := "RoleLoom$Act", name := "<init>", desc := "(LRoleLoom;II)V" } : Jvm.MethodName)) ∈ lw_all := lw_g (lw_at lw_m4 91 rfl) rfl
theorem q887 : (Jvm.Cond.fieldLink "RoleLoom$Mark" (3 : Nat) "RoleLoom$Mark" "this$0" "LRoleLoom;") ∈ lw_all := lw_g (lw_at lw_m4 92 rfl) rfl
theorem q888 : (Jvm.Cond.laysFinal "RoleLoom$Mark" "RoleLoom$Mark" "this$0" "LRoleLoom;") ∈ lw_all := lw_g (lw_at lw_m4 93 rfl) rfl
theorem q889 : (Jvm.Cond.soleField "RoleLoom$Mark" "this$0") ∈ lw_all := lw_g (lw_at lw_m4 94 rfl) rfl
theorem q890 : (Jvm.Cond.laysFinal "RoleLoom$Mark" "RoleLoom$Act" "a" "I") ∈ lw_all := lw_g (lw_at lw_m4 95 rfl) rfl
theorem q891 : (Jvm.Cond.laysFinal "RoleLoom$Mark" "RoleLoom$Act" "b" "I") ∈ lw_all := lw_g (lw_at lw_m4 96 rfl) rfl
theorem q892 : (Jvm.Cond.laysFinal "RoleLoom$Mark" "RoleLoom$Act" "this$0" "LRoleLoom;") ∈ lw_all := lw_g (lw_at lw_m4 97 rfl) rfl
theorem q893 : (Jvm.Cond.superclass "RoleLoom$Mark" "RoleLoom$Act") ∈ lw_all := lw_g (lw_at lw_m4 98 rfl) rfl
theorem q1041 : (Jvm.Cond.castable "RoleLoom$Mark" "RoleLoom$Does") ∈ lw_tbl := lw_at lw_m5 6 rfl
theorem q1042 : (Jvm.Cond.unhidden "RoleLoom$Mark" "fits" "(LRoleLoom$Part;)Z") ∈ lw_tbl := lw_at lw_m5 7 rfl
theorem q1368 : (Jvm.Cond.selects "RoleLoom$Mark" ({ cls := "RoleLoom$Does", name := "act", desc := "(LRoleLoom$Frame;J)J" } : Jvm.MethodName) ({ cls := "RoleLoom$Mark", name := "act", desc := "(LRoleLoom$Frame;J)J" } : Jvm.MethodName)) ∈ lw_all := lw_g (lw_at lw_m6 93 rfl) rfl
theorem q1369 : (Jvm.Cond.instanceMethod ({ cls := "RoleLoom$Mark", name := "act", desc := "(LRoleLoom$Frame;J)J" } : Jvm.MethodName)) ∈ lw_all := lw_g (lw_at lw_m6 94 rfl) rfl
theorem q1370 : (Jvm.Cond.code ({ cls := "RoleLoom$Mark", name := "act", desc := "(LRoleLoom$Frame;J)J" } : Jvm.MethodName) prog_17_method_2_code (4 : Nat) (Option.some Jvm.ClassFile.FieldType.long)) ∈ lw_all := lw_g (lw_at lw_m6 95 rfl) rfl
theorem q2061 : (Jvm.Cond.castable "RoleLoom$Mark" "RoleLoom$Act") ∈ lw_tbl := lw_at lw_m9 66 rfl
theorem q2091 : (Jvm.Cond.castable "RoleLoom$Mark" "java/lang/Object") ∈ lw_tbl := lw_at lw_m9 96 rfl
theorem in_X21 : ∀ w ∈ wsX210, w ∈ lw_all := lw_in wsX210 [890, 891, 892, 888] (by decide +kernel) (by decide +kernel)
/-! RoleLoom$Make -/
set_option maxRecDepth 100000
def RX22 : String := "RoleLoom$Make"
def TX22 : u_T := fun k => match k with
  | 0 => ("RoleLoom$Act", "a", "I", true)
  | 1 => ("RoleLoom$Act", "b", "I", true)
  | 2 => ("RoleLoom$Act", "this$0", "LRoleLoom;", true)
  | _ => ("RoleLoom$Make", "this$0", "LRoleLoom;", true)
def tyX22 : Nat → FieldType := fun k => match k with
  | 0 => .int
  | 1 => .int
  | 2 => .object "RoleLoom"
  | _ => .object "RoleLoom"
abbrev wsX220 : List Cond := u_ws RX22 TX22 4
-- two fields of one name: no nmX22
theorem tyX22_ok : ∀ k, k < 4 → parseFieldDescriptor (TX22 k).2.2.1 = some (tyX22 k) := by decide +kernel
abbrev cX22_init : ByteArray := prog_16_method_1_code
def yX22_init : MethodName := ⟨RX22, "<init>", "(LRoleLoom;II)V"⟩
def dkwX22_init_0 : List UInt8 := [42, 43, 181, 0, 3, 42, 43, 28, 29, 183, 0, 9, 177]
abbrev dktX22_init_0 : List UInt8 := dkwX22_init_0 ++ []
theorem dksX22_init_0 : cX22_init.data.toList.drop 0 = dktX22_init_0 := by decide +kernel
theorem dX22_init_0 : decode cX22_init 0 = .ok (.aload_n 0, 1) := dk_42 (dk_at dksX22_init_0 0 rfl rfl)
theorem dX22_init_1 : decode cX22_init 1 = .ok (.aload_n 1, 1) := dk_43 (dk_at dksX22_init_0 1 rfl rfl)
theorem dX22_init_2 : decode cX22_init 2 = .ok (.putfield 3, 3) := dk_181 0 3 (dk_at dksX22_init_0 2 rfl rfl)
theorem dX22_init_5 : decode cX22_init 5 = .ok (.aload_n 0, 1) := dk_42 (dk_at dksX22_init_0 5 rfl rfl)
theorem dX22_init_6 : decode cX22_init 6 = .ok (.aload_n 1, 1) := dk_43 (dk_at dksX22_init_0 6 rfl rfl)
theorem dX22_init_7 : decode cX22_init 7 = .ok (.iload_n 2, 1) := dk_28 (dk_at dksX22_init_0 7 rfl rfl)
theorem dX22_init_8 : decode cX22_init 8 = .ok (.iload_n 3, 1) := dk_29 (dk_at dksX22_init_0 8 rfl rfl)
theorem dX22_init_9 : decode cX22_init 9 = .ok (.invokespecial 9, 3) := dk_183 0 9 (dk_at dksX22_init_0 9 rfl rfl)
theorem dX22_init_12 : decode cX22_init 12 = .ok (.return_, 1) := dk_177 (dk_at dksX22_init_0 12 rfl rfl)
abbrev cX22_fits : ByteArray := prog_16_method_3_code
def yX22_fits : MethodName := ⟨RX22, "fits", "(LRoleLoom$Part;)Z"⟩
def dkwX22_fits_0 : List UInt8 := [42, 180, 0, 33, 3, 43, 180, 0, 41, 4, 100, 184, 0, 45, 172]
abbrev dktX22_fits_0 : List UInt8 := dkwX22_fits_0 ++ []
theorem dksX22_fits_0 : cX22_fits.data.toList.drop 0 = dktX22_fits_0 := by decide +kernel
theorem dX22_fits_0 : decode cX22_fits 0 = .ok (.aload_n 0, 1) := dk_42 (dk_at dksX22_fits_0 0 rfl rfl)
theorem dX22_fits_1 : decode cX22_fits 1 = .ok (.getfield 33, 3) := dk_180 0 33 (dk_at dksX22_fits_0 1 rfl rfl)
theorem dX22_fits_4 : decode cX22_fits 4 = .ok (.iconst 0, 1) := dk_3 (dk_at dksX22_fits_0 4 rfl rfl)
theorem dX22_fits_5 : decode cX22_fits 5 = .ok (.aload_n 1, 1) := dk_43 (dk_at dksX22_fits_0 5 rfl rfl)
theorem dX22_fits_6 : decode cX22_fits 6 = .ok (.getfield 41, 3) := dk_180 0 41 (dk_at dksX22_fits_0 6 rfl rfl)
theorem dX22_fits_9 : decode cX22_fits 9 = .ok (.iconst 1, 1) := dk_4 (dk_at dksX22_fits_0 9 rfl rfl)
theorem dX22_fits_10 : decode cX22_fits 10 = .ok (.isub, 1) := dk_100 (dk_at dksX22_fits_0 10 rfl rfl)
theorem dX22_fits_11 : decode cX22_fits 11 = .ok (.invokestatic 45, 3) := dk_184 0 45 (dk_at dksX22_fits_0 11 rfl rfl)
theorem dX22_fits_14 : decode cX22_fits 14 = .ok (.ireturn, 1) := dk_172 (dk_at dksX22_fits_0 14 rfl rfl)
abbrev cX22_act : ByteArray := prog_16_method_2_code
def yX22_act : MethodName := ⟨RX22, "act", "(LRoleLoom$Frame;J)J"⟩
def dkwX22_act_3 : List UInt8 := [132, 4, 1, 167, 255, 227, 32, 173]
abbrev dktX22_act_3 : List UInt8 := dkwX22_act_3 ++ []
def dkwX22_act_2 : List UInt8 := [16, 12, 162, 0, 28, 43, 180, 0, 21, 180, 0, 37, 16, 12, 42, 180, 0, 33, 104, 21, 4, 96, 9, 80]
abbrev dktX22_act_2 : List UInt8 := dkwX22_act_2 ++ dktX22_act_3
def dkwX22_act_1 : List UInt8 := [182, 0, 17, 191, 43, 180, 0, 21, 180, 0, 27, 42, 180, 0, 33, 32, 136, 79, 3, 54, 4, 21, 4]
abbrev dktX22_act_1 : List UInt8 := dkwX22_act_1 ++ dktX22_act_2
def dkwX22_act_0 : List UInt8 := [32, 9, 148, 155, 0, 11, 32, 20, 0, 15, 148, 158, 0, 15, 42, 180, 0, 3, 43, 16, 13, 9]
abbrev dktX22_act_0 : List UInt8 := dkwX22_act_0 ++ dktX22_act_1
theorem dksX22_act_0 : cX22_act.data.toList.drop 0 = dktX22_act_0 := by decide +kernel
theorem dksX22_act_1 : cX22_act.data.toList.drop 22 = dktX22_act_1 := dk_seg dksX22_act_0 22 rfl rfl
theorem dksX22_act_2 : cX22_act.data.toList.drop 45 = dktX22_act_2 := dk_seg dksX22_act_1 23 rfl rfl
theorem dksX22_act_3 : cX22_act.data.toList.drop 69 = dktX22_act_3 := dk_seg dksX22_act_2 24 rfl rfl
theorem dX22_act_0 : decode cX22_act 0 = .ok (.lload_n 2, 1) := dk_32 (dk_at dksX22_act_0 0 rfl rfl)
theorem dX22_act_1 : decode cX22_act 1 = .ok (.lconst 0, 1) := dk_9 (dk_at dksX22_act_0 1 rfl rfl)
theorem dX22_act_2 : decode cX22_act 2 = .ok (.lcmp, 1) := dk_148 (dk_at dksX22_act_0 2 rfl rfl)
theorem dX22_act_3 : decode cX22_act 3 = .ok (.ifCond .lt 11, 3) := dk_155 0 11 (dk_at dksX22_act_0 3 rfl rfl)
theorem dX22_act_6 : decode cX22_act 6 = .ok (.lload_n 2, 1) := dk_32 (dk_at dksX22_act_0 6 rfl rfl)
theorem dX22_act_7 : decode cX22_act 7 = .ok (.ldc2_w 15, 3) := dk_20 0 15 (dk_at dksX22_act_0 7 rfl rfl)
theorem dX22_act_10 : decode cX22_act 10 = .ok (.lcmp, 1) := dk_148 (dk_at dksX22_act_0 10 rfl rfl)
theorem dX22_act_11 : decode cX22_act 11 = .ok (.ifCond .le 15, 3) := dk_158 0 15 (dk_at dksX22_act_0 11 rfl rfl)
theorem dX22_act_14 : decode cX22_act 14 = .ok (.aload_n 0, 1) := dk_42 (dk_at dksX22_act_0 14 rfl rfl)
theorem dX22_act_15 : decode cX22_act 15 = .ok (.getfield 3, 3) := dk_180 0 3 (dk_at dksX22_act_0 15 rfl rfl)
theorem dX22_act_18 : decode cX22_act 18 = .ok (.aload_n 1, 1) := dk_43 (dk_at dksX22_act_0 18 rfl rfl)
theorem dX22_act_19 : decode cX22_act 19 = .ok (.bipush 13, 2) := dk_16 13 (dk_at dksX22_act_0 19 rfl rfl)
theorem dX22_act_21 : decode cX22_act 21 = .ok (.lconst 0, 1) := dk_9 (dk_at dksX22_act_0 21 rfl rfl)
theorem dX22_act_22 : decode cX22_act 22 = .ok (.invokevirtual 17, 3) := dk_182 0 17 (dk_at dksX22_act_1 0 rfl rfl)
theorem dX22_act_25 : decode cX22_act 25 = .ok (.athrow, 1) := dk_191 (dk_at dksX22_act_1 3 rfl rfl)
theorem dX22_act_26 : decode cX22_act 26 = .ok (.aload_n 1, 1) := dk_43 (dk_at dksX22_act_1 4 rfl rfl)
theorem dX22_act_27 : decode cX22_act 27 = .ok (.getfield 21, 3) := dk_180 0 21 (dk_at dksX22_act_1 5 rfl rfl)
theorem dX22_act_30 : decode cX22_act 30 = .ok (.getfield 27, 3) := dk_180 0 27 (dk_at dksX22_act_1 8 rfl rfl)
theorem dX22_act_33 : decode cX22_act 33 = .ok (.aload_n 0, 1) := dk_42 (dk_at dksX22_act_1 11 rfl rfl)
theorem dX22_act_34 : decode cX22_act 34 = .ok (.getfield 33, 3) := dk_180 0 33 (dk_at dksX22_act_1 12 rfl rfl)
theorem dX22_act_37 : decode cX22_act 37 = .ok (.lload_n 2, 1) := dk_32 (dk_at dksX22_act_1 15 rfl rfl)
theorem dX22_act_38 : decode cX22_act 38 = .ok (.l2i, 1) := dk_136 (dk_at dksX22_act_1 16 rfl rfl)
theorem dX22_act_39 : decode cX22_act 39 = .ok (.iastore, 1) := dk_79 (dk_at dksX22_act_1 17 rfl rfl)
theorem dX22_act_40 : decode cX22_act 40 = .ok (.iconst 0, 1) := dk_3 (dk_at dksX22_act_1 18 rfl rfl)
theorem dX22_act_41 : decode cX22_act 41 = .ok (.istore 4, 2) := dk_54 4 (dk_at dksX22_act_1 19 rfl rfl)
theorem dX22_act_43 : decode cX22_act 43 = .ok (.iload 4, 2) := dk_21 4 (dk_at dksX22_act_1 21 rfl rfl)
theorem dX22_act_45 : decode cX22_act 45 = .ok (.bipush 12, 2) := dk_16 12 (dk_at dksX22_act_2 0 rfl rfl)
theorem dX22_act_47 : decode cX22_act 47 = .ok (.if_icmp .ge 28, 3) := dk_162 0 28 (dk_at dksX22_act_2 2 rfl rfl)
theorem dX22_act_50 : decode cX22_act 50 = .ok (.aload_n 1, 1) := dk_43 (dk_at dksX22_act_2 5 rfl rfl)
theorem dX22_act_51 : decode cX22_act 51 = .ok (.getfield 21, 3) := dk_180 0 21 (dk_at dksX22_act_2 6 rfl rfl)
theorem dX22_act_54 : decode cX22_act 54 = .ok (.getfield 37, 3) := dk_180 0 37 (dk_at dksX22_act_2 9 rfl rfl)
theorem dX22_act_57 : decode cX22_act 57 = .ok (.bipush 12, 2) := dk_16 12 (dk_at dksX22_act_2 12 rfl rfl)
theorem dX22_act_59 : decode cX22_act 59 = .ok (.aload_n 0, 1) := dk_42 (dk_at dksX22_act_2 14 rfl rfl)
theorem dX22_act_60 : decode cX22_act 60 = .ok (.getfield 33, 3) := dk_180 0 33 (dk_at dksX22_act_2 15 rfl rfl)
theorem dX22_act_63 : decode cX22_act 63 = .ok (.imul, 1) := dk_104 (dk_at dksX22_act_2 18 rfl rfl)
theorem dX22_act_64 : decode cX22_act 64 = .ok (.iload 4, 2) := dk_21 4 (dk_at dksX22_act_2 19 rfl rfl)
theorem dX22_act_66 : decode cX22_act 66 = .ok (.iadd, 1) := dk_96 (dk_at dksX22_act_2 21 rfl rfl)
theorem dX22_act_67 : decode cX22_act 67 = .ok (.lconst 0, 1) := dk_9 (dk_at dksX22_act_2 22 rfl rfl)
theorem dX22_act_68 : decode cX22_act 68 = .ok (.lastore, 1) := dk_80 (dk_at dksX22_act_2 23 rfl rfl)
theorem dX22_act_69 : decode cX22_act 69 = .ok (.iinc 4 1, 3) := dk_132 4 1 (dk_at dksX22_act_3 0 rfl rfl)
theorem dX22_act_72 : decode cX22_act 72 = .ok (.goto (-29), 3) := dk_167 255 227 (dk_at dksX22_act_3 3 rfl rfl)
theorem dX22_act_75 : decode cX22_act 75 = .ok (.lload_n 2, 1) := dk_32 (dk_at dksX22_act_3 6 rfl rfl)
theorem dX22_act_76 : decode cX22_act 76 = .ok (.lreturn, 1) := dk_173 (dk_at dksX22_act_3 7 rfl rfl)
theorem q109 : (Jvm.Cond.initialized "RoleLoom$Make") ∈ lw_all := lw_g (lw_at lw_m1 34 rfl) rfl
theorem q257 : (Jvm.Cond.fieldLinkNest "RoleLoom$Make" (21 : Nat) "RoleLoom$Frame" "state" "LRoleLoom$State;" "RoleLoom") ∈ lw_tbl := lw_at lw_m1 182 rfl
theorem q434 : (Jvm.Cond.fieldLinkNest "RoleLoom$Make" (41 : Nat) "RoleLoom$Part" "rows" "I" "RoleLoom") ∈ lw_tbl := lw_at lw_m2 119 rfl
theorem q513 : (Jvm.Cond.selects "RoleLoom$Make" ({ cls := "java/lang/Object", name := "getClass", desc := "()Ljava/lang/Class;" } : Jvm.MethodName) ({ cls := "java/lang/Object", name := "getClass", desc := "()Ljava/lang/Class;" } : Jvm.MethodName)) ∈ lw_all := lw_g (lw_at lw_m2 198 rfl) rfl
theorem q596 : (Jvm.Cond.selects "RoleLoom$Make" ({ cls := "java/lang/Object", name := "equals", desc := "(Ljava/lang/Object;)Z" } : Jvm.MethodName) ({ cls := "java/lang/Object", name := "equals", desc := "(Ljava/lang/Object;)Z" } : Jvm.MethodName)) ∈ lw_all := lw_g (lw_at lw_m3 41 rfl) rfl
theorem q699 : (Jvm.Cond.fieldLink "RoleLoom$Make" (33 : Nat) "RoleLoom$Make" "a" "I") ∈ lw_all := lw_g (lw_at lw_m3 144 rfl) rfl
theorem q700 : (Jvm.Cond.sameField "RoleLoom$Make" "RoleLoom$Act" "a" "I") ∈ lw_all := lw_g (lw_at lw_m3 145 rfl) rfl
theorem q895 : (Jvm.Cond.instantiable "RoleLoom$Make" (4 : Nat)) ∈ lw_all := lw_g (lw_at lw_m4 100 rfl) rfl
theorem q897 : (Jvm.Cond.instanceMethod ({ cls := "RoleLoom$Make", name := "<init>", desc := "(LRoleLoom;II)V" } : Jvm.MethodName)) ∈ lw_all := lw_g (lw_at lw_m4 102 rfl) rfl
theorem q898 : (Jvm.Cond.code ({ cls := "RoleLoom$Make", name := "<init>", desc := "(LRoleLoom;II)V" } : Jvm.MethodName) prog_16_method_1_code (4 : Nat) (Option.none : Option Jvm.ClassFile.FieldType)) ∈ lw_all := lw_g (lw_at lw_m4 103 rfl) rfl
theorem q899 : (Jvm.Cond.methodLink "RoleLoom$Make" (9 : Nat) ({ cls := "RoleLoom$Act", name := "<init>", desc := "(LRoleLoom;II)V" } : Jvm.MethodName)) ∈ lw_all := lw_g (lw_at lw_m4 104 rfl) rfl
theorem q900 : (Jvm.Cond.fieldLink "RoleLoom$Make" (3 : Nat) "RoleLoom$Make" "this$0" "LRoleLoom;") ∈ lw_all := lw_g (lw_at lw_m4 105 rfl) rfl
theorem q901 : (Jvm.Cond.laysFinal "RoleLoom$Make" "RoleLoom$Make" "this$0" "LRoleLoom;") ∈ lw_all := lw_g (lw_at lw_m4 106 rfl) rfl
theorem q902 : (Jvm.Cond.soleField "RoleLoom$Make" "this$0") ∈ lw_all := lw_g (lw_at lw_m4 107 rfl) rfl
theorem q903 : (Jvm.Cond.laysFinal "RoleLoom$Make" "RoleLoom$Act" "a" "I") ∈ lw_all := lw_g (lw_at lw_m4 108 rfl) rfl
theorem q904 : (Jvm.Cond.laysFinal "RoleLoom$Make" "RoleLoom$Act" "b" "I") ∈ lw_all := lw_g (lw_at lw_m4 109 rfl) rfl
theorem q905 : (Jvm.Cond.laysFinal "RoleLoom$Make" "RoleLoom$Act" "this$0" "LRoleLoom;") ∈ lw_all := lw_g (lw_at lw_m4 110 rfl) rfl
theorem q906 : (Jvm.Cond.superclass "RoleLoom$Make" "RoleLoom$Act") ∈ lw_all := lw_g (lw_at lw_m4 111 rfl) rfl
theorem q1009 : (Jvm.Cond.instanceMethod ({ cls := "RoleLoom$Make", name := "fits", desc := "(LRoleLoom$Part;)Z" } : Jvm.MethodName)) ∈ lw_all := lw_g (lw_at lw_m4 214 rfl) rfl
theorem q1010 : (Jvm.Cond.code ({ cls := "RoleLoom$Make", name := "fits", desc := "(LRoleLoom$Part;)Z" } : Jvm.MethodName) prog_16_method_3_code (2 : Nat) (Option.some Jvm.ClassFile.FieldType.boolean)) ∈ lw_all := lw_g (lw_at lw_m4 215 rfl) rfl
theorem q1011 : (Jvm.Cond.methodLinkNest "RoleLoom$Make" (45 : Nat) ({ cls := "RoleLoom", name := "in", desc := "(III)Z" } : Jvm.MethodName) "RoleLoom") ∈ lw_tbl := lw_at lw_m4 216 rfl
theorem q1037 : (Jvm.Cond.castable "RoleLoom$Make" "RoleLoom$Does") ∈ lw_tbl := lw_at lw_m5 2 rfl
theorem q1038 : (Jvm.Cond.selects "RoleLoom$Make" ({ cls := "RoleLoom$Does", name := "fits", desc := "(LRoleLoom$Part;)Z" } : Jvm.MethodName) ({ cls := "RoleLoom$Make", name := "fits", desc := "(LRoleLoom$Part;)Z" } : Jvm.MethodName)) ∈ lw_all := lw_g (lw_at lw_m5 3 rfl) rfl
theorem q1039 : (Jvm.Cond.unhidden "RoleLoom$Make" "fits" "(LRoleLoom$Part;)Z") ∈ lw_tbl := lw_at lw_m5 4 rfl
theorem q1040 : (Jvm.Cond.publicMethod ({ cls := "RoleLoom$Make", name := "fits", desc := "(LRoleLoom$Part;)Z" } : Jvm.MethodName)) ∈ lw_tbl := lw_at lw_m5 5 rfl
theorem q1260 : (Jvm.Cond.fieldLinkNest "RoleLoom$Make" (37 : Nat) "RoleLoom$State" "rows" "[J" "RoleLoom") ∈ lw_tbl := lw_at lw_m5 225 rfl
theorem q1265 : (Jvm.Cond.fieldLinkNest "RoleLoom$Make" (27 : Nat) "RoleLoom$State" "many" "[I" "RoleLoom") ∈ lw_tbl := lw_at lw_m5 230 rfl
theorem q1363 : (Jvm.Cond.selects "RoleLoom$Make" ({ cls := "RoleLoom$Does", name := "act", desc := "(LRoleLoom$Frame;J)J" } : Jvm.MethodName) ({ cls := "RoleLoom$Make", name := "act", desc := "(LRoleLoom$Frame;J)J" } : Jvm.MethodName)) ∈ lw_all := lw_g (lw_at lw_m6 88 rfl) rfl
theorem q1364 : (Jvm.Cond.instanceMethod ({ cls := "RoleLoom$Make", name := "act", desc := "(LRoleLoom$Frame;J)J" } : Jvm.MethodName)) ∈ lw_all := lw_g (lw_at lw_m6 89 rfl) rfl
theorem q1365 : (Jvm.Cond.code ({ cls := "RoleLoom$Make", name := "act", desc := "(LRoleLoom$Frame;J)J" } : Jvm.MethodName) prog_16_method_2_code (5 : Nat) (Option.some Jvm.ClassFile.FieldType.long)) ∈ lw_all := lw_g (lw_at lw_m6 90 rfl) rfl
theorem q1366 : (Jvm.Cond.constantLong "RoleLoom$Make" (15 : Nat) (12 : Int64)) ∈ lw_all := lw_g (lw_at lw_m6 91 rfl) rfl
theorem q1367 : (Jvm.Cond.methodLinkNest "RoleLoom$Make" (17 : Nat) ({ cls := "RoleLoom", name := "thrown", desc := "(LRoleLoom$Frame;IJ)LRoleLoom$Thrown;" } : Jvm.MethodName) "RoleLoom") ∈ lw_tbl := lw_at lw_m6 92 rfl
theorem q2044 : (Jvm.Cond.sameMethod "RoleLoom$Make" "RoleLoom$Make" "fits" "(LRoleLoom$Part;)Z") ∈ lw_all := lw_g (lw_at lw_m9 49 rfl) rfl
theorem q2060 : (Jvm.Cond.castable "RoleLoom$Make" "RoleLoom$Act") ∈ lw_tbl := lw_at lw_m9 65 rfl
theorem q2092 : (Jvm.Cond.castable "RoleLoom$Make" "java/lang/Object") ∈ lw_tbl := lw_at lw_m9 97 rfl
theorem in_X22 : ∀ w ∈ wsX220, w ∈ lw_all := lw_in wsX220 [903, 904, 905, 901] (by decide +kernel) (by decide +kernel)
/-! RoleLoom$At -/
set_option maxRecDepth 100000
def RX23 : String := "RoleLoom$At"
def TX23 : u_T := fun k => match k with
  | 0 => ("RoleLoom$Act", "a", "I", true)
  | 1 => ("RoleLoom$Act", "b", "I", true)
  | 2 => ("RoleLoom$Act", "this$0", "LRoleLoom;", true)
  | 3 => ("RoleLoom$Make", "this$0", "LRoleLoom;", true)
  | _ => ("RoleLoom$At", "this$0", "LRoleLoom;", true)
def tyX23 : Nat → FieldType := fun k => match k with
  | 0 => .int
  | 1 => .int
  | 2 => .object "RoleLoom"
  | 3 => .object "RoleLoom"
  | _ => .object "RoleLoom"
abbrev wsX230 : List Cond := u_ws RX23 TX23 5
-- two fields of one name: no nmX23
theorem tyX23_ok : ∀ k, k < 5 → parseFieldDescriptor (TX23 k).2.2.1 = some (tyX23 k) := by decide +kernel
abbrev cX23_init : ByteArray := prog_8_method_1_code
def yX23_init : MethodName := ⟨RX23, "<init>", "(LRoleLoom;II)V"⟩
def dkwX23_init_0 : List UInt8 := [42, 43, 181, 0, 3, 42, 43, 28, 29, 183, 0, 9, 177]
abbrev dktX23_init_0 : List UInt8 := dkwX23_init_0 ++ []
theorem dksX23_init_0 : cX23_init.data.toList.drop 0 = dktX23_init_0 := by decide +kernel
theorem dX23_init_0 : decode cX23_init 0 = .ok (.aload_n 0, 1) := dk_42 (dk_at dksX23_init_0 0 rfl rfl)
theorem dX23_init_1 : decode cX23_init 1 = .ok (.aload_n 1, 1) := dk_43 (dk_at dksX23_init_0 1 rfl rfl)
theorem dX23_init_2 : decode cX23_init 2 = .ok (.putfield 3, 3) := dk_181 0 3 (dk_at dksX23_init_0 2 rfl rfl)
theorem dX23_init_5 : decode cX23_init 5 = .ok (.aload_n 0, 1) := dk_42 (dk_at dksX23_init_0 5 rfl rfl)
theorem dX23_init_6 : decode cX23_init 6 = .ok (.aload_n 1, 1) := dk_43 (dk_at dksX23_init_0 6 rfl rfl)
theorem dX23_init_7 : decode cX23_init 7 = .ok (.iload_n 2, 1) := dk_28 (dk_at dksX23_init_0 7 rfl rfl)
theorem dX23_init_8 : decode cX23_init 8 = .ok (.iload_n 3, 1) := dk_29 (dk_at dksX23_init_0 8 rfl rfl)
theorem dX23_init_9 : decode cX23_init 9 = .ok (.invokespecial 9, 3) := dk_183 0 9 (dk_at dksX23_init_0 9 rfl rfl)
theorem dX23_init_12 : decode cX23_init 12 = .ok (.return_, 1) := dk_177 (dk_at dksX23_init_0 12 rfl rfl)
abbrev cX23_fits : ByteArray := prog_8_method_4_code
def yX23_fits : MethodName := ⟨RX23, "fits", "(LRoleLoom$Part;)Z"⟩
def dkwX23_fits_1 : List UInt8 := [153, 0, 7, 4, 167, 0, 4, 3, 172]
abbrev dktX23_fits_1 : List UInt8 := dkwX23_fits_1 ++ []
def dkwX23_fits_0 : List UInt8 := [42, 43, 183, 0, 49, 153, 0, 24, 42, 180, 0, 39, 3, 43, 180, 0, 53, 4, 100, 184, 0, 57]
abbrev dktX23_fits_0 : List UInt8 := dkwX23_fits_0 ++ dktX23_fits_1
theorem dksX23_fits_0 : cX23_fits.data.toList.drop 0 = dktX23_fits_0 := by decide +kernel
theorem dksX23_fits_1 : cX23_fits.data.toList.drop 22 = dktX23_fits_1 := dk_seg dksX23_fits_0 22 rfl rfl
theorem dX23_fits_0 : decode cX23_fits 0 = .ok (.aload_n 0, 1) := dk_42 (dk_at dksX23_fits_0 0 rfl rfl)
theorem dX23_fits_1 : decode cX23_fits 1 = .ok (.aload_n 1, 1) := dk_43 (dk_at dksX23_fits_0 1 rfl rfl)
theorem dX23_fits_2 : decode cX23_fits 2 = .ok (.invokespecial 49, 3) := dk_183 0 49 (dk_at dksX23_fits_0 2 rfl rfl)
theorem dX23_fits_5 : decode cX23_fits 5 = .ok (.ifCond .eq 24, 3) := dk_153 0 24 (dk_at dksX23_fits_0 5 rfl rfl)
theorem dX23_fits_8 : decode cX23_fits 8 = .ok (.aload_n 0, 1) := dk_42 (dk_at dksX23_fits_0 8 rfl rfl)
theorem dX23_fits_9 : decode cX23_fits 9 = .ok (.getfield 39, 3) := dk_180 0 39 (dk_at dksX23_fits_0 9 rfl rfl)
theorem dX23_fits_12 : decode cX23_fits 12 = .ok (.iconst 0, 1) := dk_3 (dk_at dksX23_fits_0 12 rfl rfl)
theorem dX23_fits_13 : decode cX23_fits 13 = .ok (.aload_n 1, 1) := dk_43 (dk_at dksX23_fits_0 13 rfl rfl)
theorem dX23_fits_14 : decode cX23_fits 14 = .ok (.getfield 53, 3) := dk_180 0 53 (dk_at dksX23_fits_0 14 rfl rfl)
theorem dX23_fits_17 : decode cX23_fits 17 = .ok (.iconst 1, 1) := dk_4 (dk_at dksX23_fits_0 17 rfl rfl)
theorem dX23_fits_18 : decode cX23_fits 18 = .ok (.isub, 1) := dk_100 (dk_at dksX23_fits_0 18 rfl rfl)
theorem dX23_fits_19 : decode cX23_fits 19 = .ok (.invokestatic 57, 3) := dk_184 0 57 (dk_at dksX23_fits_0 19 rfl rfl)
theorem dX23_fits_22 : decode cX23_fits 22 = .ok (.ifCond .eq 7, 3) := dk_153 0 7 (dk_at dksX23_fits_1 0 rfl rfl)
theorem dX23_fits_25 : decode cX23_fits 25 = .ok (.iconst 1, 1) := dk_4 (dk_at dksX23_fits_1 3 rfl rfl)
theorem dX23_fits_26 : decode cX23_fits 26 = .ok (.goto 4, 3) := dk_167 0 4 (dk_at dksX23_fits_1 4 rfl rfl)
theorem dX23_fits_29 : decode cX23_fits 29 = .ok (.iconst 0, 1) := dk_3 (dk_at dksX23_fits_1 7 rfl rfl)
theorem dX23_fits_30 : decode cX23_fits 30 = .ok (.ireturn, 1) := dk_172 (dk_at dksX23_fits_1 8 rfl rfl)
abbrev cX23_act : ByteArray := prog_8_method_3_code
def yX23_act : MethodName := ⟨RX23, "act", "(LRoleLoom$Frame;J)J"⟩
def dkwX23_act_0 : List UInt8 := [43, 180, 0, 15, 180, 0, 42, 42, 43, 182, 0, 45, 47, 173]
abbrev dktX23_act_0 : List UInt8 := dkwX23_act_0 ++ []
theorem dksX23_act_0 : cX23_act.data.toList.drop 0 = dktX23_act_0 := by decide +kernel
theorem dX23_act_0 : decode cX23_act 0 = .ok (.aload_n 1, 1) := dk_43 (dk_at dksX23_act_0 0 rfl rfl)
theorem dX23_act_1 : decode cX23_act 1 = .ok (.getfield 15, 3) := dk_180 0 15 (dk_at dksX23_act_0 1 rfl rfl)
theorem dX23_act_4 : decode cX23_act 4 = .ok (.getfield 42, 3) := dk_180 0 42 (dk_at dksX23_act_0 4 rfl rfl)
theorem dX23_act_7 : decode cX23_act 7 = .ok (.aload_n 0, 1) := dk_42 (dk_at dksX23_act_0 7 rfl rfl)
theorem dX23_act_8 : decode cX23_act 8 = .ok (.aload_n 1, 1) := dk_43 (dk_at dksX23_act_0 8 rfl rfl)
theorem dX23_act_9 : decode cX23_act 9 = .ok (.invokevirtual 45, 3) := dk_182 0 45 (dk_at dksX23_act_0 9 rfl rfl)
theorem dX23_act_12 : decode cX23_act 12 = .ok (.laload, 1) := dk_47 (dk_at dksX23_act_0 12 rfl rfl)
theorem dX23_act_13 : decode cX23_act 13 = .ok (.lreturn, 1) := dk_173 (dk_at dksX23_act_0 13 rfl rfl)
abbrev cX23_place : ByteArray := prog_8_method_2_code
def yX23_place : MethodName := ⟨RX23, "place", "(LRoleLoom$Frame;)I"⟩
def dkwX23_place_3 : List UInt8 := [9, 182, 0, 31, 191, 16, 12, 42, 180, 0, 27, 104, 32, 136, 96, 172]
abbrev dktX23_place_3 : List UInt8 := dkwX23_place_3 ++ []
def dkwX23_place_2 : List UInt8 := [43, 180, 0, 15, 180, 0, 21, 42, 180, 0, 27, 46, 133, 148, 155, 0, 15, 42, 180, 0, 3, 43, 16, 15]
abbrev dktX23_place_2 : List UInt8 := dkwX23_place_2 ++ dktX23_place_3
def dkwX23_place_1 : List UInt8 := [182, 0, 31, 191, 43, 180, 0, 15, 180, 0, 35, 42, 180, 0, 39, 47, 65, 32, 9, 148, 155, 0, 21, 32]
abbrev dktX23_place_1 : List UInt8 := dkwX23_place_1 ++ dktX23_place_2
def dkwX23_place_0 : List UInt8 := [43, 180, 0, 15, 180, 0, 21, 42, 180, 0, 27, 46, 156, 0, 15, 42, 180, 0, 3, 43, 16, 14, 9]
abbrev dktX23_place_0 : List UInt8 := dkwX23_place_0 ++ dktX23_place_1
theorem dksX23_place_0 : cX23_place.data.toList.drop 0 = dktX23_place_0 := by decide +kernel
theorem dksX23_place_1 : cX23_place.data.toList.drop 23 = dktX23_place_1 := dk_seg dksX23_place_0 23 rfl rfl
theorem dksX23_place_2 : cX23_place.data.toList.drop 47 = dktX23_place_2 := dk_seg dksX23_place_1 24 rfl rfl
theorem dksX23_place_3 : cX23_place.data.toList.drop 71 = dktX23_place_3 := dk_seg dksX23_place_2 24 rfl rfl
theorem dX23_place_0 : decode cX23_place 0 = .ok (.aload_n 1, 1) := dk_43 (dk_at dksX23_place_0 0 rfl rfl)
theorem dX23_place_1 : decode cX23_place 1 = .ok (.getfield 15, 3) := dk_180 0 15 (dk_at dksX23_place_0 1 rfl rfl)
theorem dX23_place_4 : decode cX23_place 4 = .ok (.getfield 21, 3) := dk_180 0 21 (dk_at dksX23_place_0 4 rfl rfl)
theorem dX23_place_7 : decode cX23_place 7 = .ok (.aload_n 0, 1) := dk_42 (dk_at dksX23_place_0 7 rfl rfl)
theorem dX23_place_8 : decode cX23_place 8 = .ok (.getfield 27, 3) := dk_180 0 27 (dk_at dksX23_place_0 8 rfl rfl)
theorem dX23_place_11 : decode cX23_place 11 = .ok (.iaload, 1) := dk_46 (dk_at dksX23_place_0 11 rfl rfl)
theorem dX23_place_12 : decode cX23_place 12 = .ok (.ifCond .ge 15, 3) := dk_156 0 15 (dk_at dksX23_place_0 12 rfl rfl)
theorem dX23_place_15 : decode cX23_place 15 = .ok (.aload_n 0, 1) := dk_42 (dk_at dksX23_place_0 15 rfl rfl)
theorem dX23_place_16 : decode cX23_place 16 = .ok (.getfield 3, 3) := dk_180 0 3 (dk_at dksX23_place_0 16 rfl rfl)
theorem dX23_place_19 : decode cX23_place 19 = .ok (.aload_n 1, 1) := dk_43 (dk_at dksX23_place_0 19 rfl rfl)
theorem dX23_place_20 : decode cX23_place 20 = .ok (.bipush 14, 2) := dk_16 14 (dk_at dksX23_place_0 20 rfl rfl)
theorem dX23_place_22 : decode cX23_place 22 = .ok (.lconst 0, 1) := dk_9 (dk_at dksX23_place_0 22 rfl rfl)
theorem dX23_place_23 : decode cX23_place 23 = .ok (.invokevirtual 31, 3) := dk_182 0 31 (dk_at dksX23_place_1 0 rfl rfl)
theorem dX23_place_26 : decode cX23_place 26 = .ok (.athrow, 1) := dk_191 (dk_at dksX23_place_1 3 rfl rfl)
theorem dX23_place_27 : decode cX23_place 27 = .ok (.aload_n 1, 1) := dk_43 (dk_at dksX23_place_1 4 rfl rfl)
theorem dX23_place_28 : decode cX23_place 28 = .ok (.getfield 15, 3) := dk_180 0 15 (dk_at dksX23_place_1 5 rfl rfl)
theorem dX23_place_31 : decode cX23_place 31 = .ok (.getfield 35, 3) := dk_180 0 35 (dk_at dksX23_place_1 8 rfl rfl)
theorem dX23_place_34 : decode cX23_place 34 = .ok (.aload_n 0, 1) := dk_42 (dk_at dksX23_place_1 11 rfl rfl)
theorem dX23_place_35 : decode cX23_place 35 = .ok (.getfield 39, 3) := dk_180 0 39 (dk_at dksX23_place_1 12 rfl rfl)
theorem dX23_place_38 : decode cX23_place 38 = .ok (.laload, 1) := dk_47 (dk_at dksX23_place_1 15 rfl rfl)
theorem dX23_place_39 : decode cX23_place 39 = .ok (.lstore_n 2, 1) := dk_65 (dk_at dksX23_place_1 16 rfl rfl)
theorem dX23_place_40 : decode cX23_place 40 = .ok (.lload_n 2, 1) := dk_32 (dk_at dksX23_place_1 17 rfl rfl)
theorem dX23_place_41 : decode cX23_place 41 = .ok (.lconst 0, 1) := dk_9 (dk_at dksX23_place_1 18 rfl rfl)
theorem dX23_place_42 : decode cX23_place 42 = .ok (.lcmp, 1) := dk_148 (dk_at dksX23_place_1 19 rfl rfl)
theorem dX23_place_43 : decode cX23_place 43 = .ok (.ifCond .lt 21, 3) := dk_155 0 21 (dk_at dksX23_place_1 20 rfl rfl)
theorem dX23_place_46 : decode cX23_place 46 = .ok (.lload_n 2, 1) := dk_32 (dk_at dksX23_place_1 23 rfl rfl)
theorem dX23_place_47 : decode cX23_place 47 = .ok (.aload_n 1, 1) := dk_43 (dk_at dksX23_place_2 0 rfl rfl)
theorem dX23_place_48 : decode cX23_place 48 = .ok (.getfield 15, 3) := dk_180 0 15 (dk_at dksX23_place_2 1 rfl rfl)
theorem dX23_place_51 : decode cX23_place 51 = .ok (.getfield 21, 3) := dk_180 0 21 (dk_at dksX23_place_2 4 rfl rfl)
theorem dX23_place_54 : decode cX23_place 54 = .ok (.aload_n 0, 1) := dk_42 (dk_at dksX23_place_2 7 rfl rfl)
theorem dX23_place_55 : decode cX23_place 55 = .ok (.getfield 27, 3) := dk_180 0 27 (dk_at dksX23_place_2 8 rfl rfl)
theorem dX23_place_58 : decode cX23_place 58 = .ok (.iaload, 1) := dk_46 (dk_at dksX23_place_2 11 rfl rfl)
theorem dX23_place_59 : decode cX23_place 59 = .ok (.i2l, 1) := dk_133 (dk_at dksX23_place_2 12 rfl rfl)
theorem dX23_place_60 : decode cX23_place 60 = .ok (.lcmp, 1) := dk_148 (dk_at dksX23_place_2 13 rfl rfl)
theorem dX23_place_61 : decode cX23_place 61 = .ok (.ifCond .lt 15, 3) := dk_155 0 15 (dk_at dksX23_place_2 14 rfl rfl)
theorem dX23_place_64 : decode cX23_place 64 = .ok (.aload_n 0, 1) := dk_42 (dk_at dksX23_place_2 17 rfl rfl)
theorem dX23_place_65 : decode cX23_place 65 = .ok (.getfield 3, 3) := dk_180 0 3 (dk_at dksX23_place_2 18 rfl rfl)
theorem dX23_place_68 : decode cX23_place 68 = .ok (.aload_n 1, 1) := dk_43 (dk_at dksX23_place_2 21 rfl rfl)
theorem dX23_place_69 : decode cX23_place 69 = .ok (.bipush 15, 2) := dk_16 15 (dk_at dksX23_place_2 22 rfl rfl)
theorem dX23_place_71 : decode cX23_place 71 = .ok (.lconst 0, 1) := dk_9 (dk_at dksX23_place_3 0 rfl rfl)
theorem dX23_place_72 : decode cX23_place 72 = .ok (.invokevirtual 31, 3) := dk_182 0 31 (dk_at dksX23_place_3 1 rfl rfl)
theorem dX23_place_75 : decode cX23_place 75 = .ok (.athrow, 1) := dk_191 (dk_at dksX23_place_3 4 rfl rfl)
theorem dX23_place_76 : decode cX23_place 76 = .ok (.bipush 12, 2) := dk_16 12 (dk_at dksX23_place_3 5 rfl rfl)
theorem dX23_place_78 : decode cX23_place 78 = .ok (.aload_n 0, 1) := dk_42 (dk_at dksX23_place_3 7 rfl rfl)
theorem dX23_place_79 : decode cX23_place 79 = .ok (.getfield 27, 3) := dk_180 0 27 (dk_at dksX23_place_3 8 rfl rfl)
theorem dX23_place_82 : decode cX23_place 82 = .ok (.imul, 1) := dk_104 (dk_at dksX23_place_3 11 rfl rfl)
theorem dX23_place_83 : decode cX23_place 83 = .ok (.lload_n 2, 1) := dk_32 (dk_at dksX23_place_3 12 rfl rfl)
theorem dX23_place_84 : decode cX23_place 84 = .ok (.l2i, 1) := dk_136 (dk_at dksX23_place_3 13 rfl rfl)
theorem dX23_place_85 : decode cX23_place 85 = .ok (.iadd, 1) := dk_96 (dk_at dksX23_place_3 14 rfl rfl)
theorem dX23_place_86 : decode cX23_place 86 = .ok (.ireturn, 1) := dk_172 (dk_at dksX23_place_3 15 rfl rfl)
theorem q110 : (Jvm.Cond.initialized "RoleLoom$At") ∈ lw_all := lw_g (lw_at lw_m1 35 rfl) rfl
theorem q253 : (Jvm.Cond.fieldLinkNest "RoleLoom$At" (15 : Nat) "RoleLoom$Frame" "state" "LRoleLoom$State;" "RoleLoom") ∈ lw_tbl := lw_at lw_m1 178 rfl
theorem q430 : (Jvm.Cond.fieldLinkNest "RoleLoom$At" (53 : Nat) "RoleLoom$Part" "cells" "I" "RoleLoom") ∈ lw_tbl := lw_at lw_m2 115 rfl
theorem q506 : (Jvm.Cond.selects "RoleLoom$At" ({ cls := "java/lang/Object", name := "getClass", desc := "()Ljava/lang/Class;" } : Jvm.MethodName) ({ cls := "java/lang/Object", name := "getClass", desc := "()Ljava/lang/Class;" } : Jvm.MethodName)) ∈ lw_all := lw_g (lw_at lw_m2 191 rfl) rfl
theorem q589 : (Jvm.Cond.selects "RoleLoom$At" ({ cls := "java/lang/Object", name := "equals", desc := "(Ljava/lang/Object;)Z" } : Jvm.MethodName) ({ cls := "java/lang/Object", name := "equals", desc := "(Ljava/lang/Object;)Z" } : Jvm.MethodName)) ∈ lw_all := lw_g (lw_at lw_m3 34 rfl) rfl
theorem q687 : (Jvm.Cond.fieldLink "RoleLoom$At" (27 : Nat) "RoleLoom$At" "a" "I") ∈ lw_all := lw_g (lw_at lw_m3 132 rfl) rfl
theorem q688 : (Jvm.Cond.sameField "RoleLoom$At" "RoleLoom$Act" "a" "I") ∈ lw_all := lw_g (lw_at lw_m3 133 rfl) rfl
theorem q704 : (Jvm.Cond.fieldLink "RoleLoom$At" (39 : Nat) "RoleLoom$At" "b" "I") ∈ lw_all := lw_g (lw_at lw_m3 149 rfl) rfl
theorem q705 : (Jvm.Cond.sameField "RoleLoom$At" "RoleLoom$Act" "b" "I") ∈ lw_all := lw_g (lw_at lw_m3 150 rfl) rfl
theorem q908 : (Jvm.Cond.instantiable "RoleLoom$At" (5 : Nat)) ∈ lw_all := lw_g (lw_at lw_m4 113 rfl) rfl
theorem q910 : (Jvm.Cond.instanceMethod ({ cls := "RoleLoom$At", name := "<init>", desc := "(LRoleLoom;II)V" } : Jvm.MethodName)) ∈ lw_all := lw_g (lw_at lw_m4 115 rfl) rfl
theorem q911 : (Jvm.Cond.code ({ cls := "RoleLoom$At", name := "<init>", desc := "(LRoleLoom;II)V" } : Jvm.MethodName) prog_8_method_1_code (4 : Nat) (Option.none : Option Jvm.ClassFile.FieldType)) ∈ lw_all := lw_g (lw_at lw_m4 116 rfl) rfl
theorem q912 : (Jvm.Cond.methodLink "RoleLoom$At" (9 : Nat) ({ cls := "RoleLoom$Make", name := "<init>", desc := "(LRoleLoom;II)V" } : Jvm.MethodName)) ∈ lw_all := lw_g (lw_at lw_m4 117 rfl) rfl
theorem q913 : (Jvm.Cond.fieldLink "RoleLoom$At" (3 : Nat) "RoleLoom$At" "this$0" "LRoleLoom;") ∈ lw_all := lw_g (lw_at lw_m4 118 rfl) rfl
theorem q914 : (Jvm.Cond.laysFinal "RoleLoom$At" "RoleLoom$At" "this$0" "LRoleLoom;") ∈ lw_all := lw_g (lw_at lw_m4 119 rfl) rfl
theorem q915 : (Jvm.Cond.soleField "RoleLoom$At" "this$0") ∈ lw_all := lw_g (lw_at lw_m4 120 rfl) rfl
theorem q916 : (Jvm.Cond.laysFinal "RoleLoom$At" "RoleLoom$Make" "this$0" "LRoleLoom;") ∈ lw_all := lw_g (lw_at lw_m4 121 rfl) rfl
theorem q917 : (Jvm.Cond.laysFinal "RoleLoom$At" "RoleLoom$Act" "a" "I") ∈ lw_all := lw_g (lw_at lw_m4 122 rfl) rfl
theorem q918 : (Jvm.Cond.laysFinal "RoleLoom$At" "RoleLoom$Act" "b" "I") ∈ lw_all := lw_g (lw_at lw_m4 123 rfl) rfl
theorem q919 : (Jvm.Cond.laysFinal "RoleLoom$At" "RoleLoom$Act" "this$0" "LRoleLoom;") ∈ lw_all := lw_g (lw_at lw_m4 124 rfl) rfl
theorem q920 : (Jvm.Cond.superclass "RoleLoom$At" "RoleLoom$Make") ∈ lw_all := lw_g (lw_at lw_m4 125 rfl) rfl
theorem q1002 : (Jvm.Cond.castable "RoleLoom$At" "RoleLoom$Does") ∈ lw_tbl := lw_at lw_m4 207 rfl
theorem q1003 : (Jvm.Cond.selects "RoleLoom$At" ({ cls := "RoleLoom$Does", name := "fits", desc := "(LRoleLoom$Part;)Z" } : Jvm.MethodName) ({ cls := "RoleLoom$At", name := "fits", desc := "(LRoleLoom$Part;)Z" } : Jvm.MethodName)) ∈ lw_all := lw_g (lw_at lw_m4 208 rfl) rfl
theorem q1004 : (Jvm.Cond.unhidden "RoleLoom$At" "fits" "(LRoleLoom$Part;)Z") ∈ lw_tbl := lw_at lw_m4 209 rfl
theorem q1005 : (Jvm.Cond.instanceMethod ({ cls := "RoleLoom$At", name := "fits", desc := "(LRoleLoom$Part;)Z" } : Jvm.MethodName)) ∈ lw_all := lw_g (lw_at lw_m4 210 rfl) rfl
theorem q1006 : (Jvm.Cond.publicMethod ({ cls := "RoleLoom$At", name := "fits", desc := "(LRoleLoom$Part;)Z" } : Jvm.MethodName)) ∈ lw_tbl := lw_at lw_m4 211 rfl
theorem q1007 : (Jvm.Cond.code ({ cls := "RoleLoom$At", name := "fits", desc := "(LRoleLoom$Part;)Z" } : Jvm.MethodName) prog_8_method_4_code (2 : Nat) (Option.some Jvm.ClassFile.FieldType.boolean)) ∈ lw_all := lw_g (lw_at lw_m4 212 rfl) rfl
theorem q1008 : (Jvm.Cond.methodLink "RoleLoom$At" (49 : Nat) ({ cls := "RoleLoom$Make", name := "fits", desc := "(LRoleLoom$Part;)Z" } : Jvm.MethodName)) ∈ lw_all := lw_g (lw_at lw_m4 213 rfl) rfl
theorem q1012 : (Jvm.Cond.methodLinkNest "RoleLoom$At" (57 : Nat) ({ cls := "RoleLoom", name := "in", desc := "(III)Z" } : Jvm.MethodName) "RoleLoom") ∈ lw_tbl := lw_at lw_m4 217 rfl
theorem q1256 : (Jvm.Cond.fieldLinkNest "RoleLoom$At" (35 : Nat) "RoleLoom$State" "cells" "[J" "RoleLoom") ∈ lw_tbl := lw_at lw_m5 221 rfl
theorem q1261 : (Jvm.Cond.fieldLinkNest "RoleLoom$At" (42 : Nat) "RoleLoom$State" "rows" "[J" "RoleLoom") ∈ lw_tbl := lw_at lw_m5 226 rfl
theorem q1264 : (Jvm.Cond.fieldLinkNest "RoleLoom$At" (21 : Nat) "RoleLoom$State" "many" "[I" "RoleLoom") ∈ lw_tbl := lw_at lw_m5 229 rfl
theorem q1336 : (Jvm.Cond.selects "RoleLoom$At" ({ cls := "RoleLoom$Does", name := "act", desc := "(LRoleLoom$Frame;J)J" } : Jvm.MethodName) ({ cls := "RoleLoom$At", name := "act", desc := "(LRoleLoom$Frame;J)J" } : Jvm.MethodName)) ∈ lw_all := lw_g (lw_at lw_m6 61 rfl) rfl
theorem q1337 : (Jvm.Cond.instanceMethod ({ cls := "RoleLoom$At", name := "act", desc := "(LRoleLoom$Frame;J)J" } : Jvm.MethodName)) ∈ lw_all := lw_g (lw_at lw_m6 62 rfl) rfl
theorem q1338 : (Jvm.Cond.code ({ cls := "RoleLoom$At", name := "act", desc := "(LRoleLoom$Frame;J)J" } : Jvm.MethodName) prog_8_method_3_code (4 : Nat) (Option.some Jvm.ClassFile.FieldType.long)) ∈ lw_all := lw_g (lw_at lw_m6 63 rfl) rfl
theorem q1339 : (Jvm.Cond.methodLink "RoleLoom$At" (45 : Nat) ({ cls := "RoleLoom$At", name := "place", desc := "(LRoleLoom$Frame;)I" } : Jvm.MethodName)) ∈ lw_all := lw_g (lw_at lw_m6 64 rfl) rfl
theorem q1340 : (Jvm.Cond.instanceMethod ({ cls := "RoleLoom$At", name := "place", desc := "(LRoleLoom$Frame;)I" } : Jvm.MethodName)) ∈ lw_all := lw_g (lw_at lw_m6 65 rfl) rfl
theorem q1341 : (Jvm.Cond.selects "RoleLoom$At" ({ cls := "RoleLoom$At", name := "place", desc := "(LRoleLoom$Frame;)I" } : Jvm.MethodName) ({ cls := "RoleLoom$At", name := "place", desc := "(LRoleLoom$Frame;)I" } : Jvm.MethodName)) ∈ lw_all := lw_g (lw_at lw_m6 66 rfl) rfl
theorem q1342 : (Jvm.Cond.sameMethod "RoleLoom$At" "RoleLoom$At" "place" "(LRoleLoom$Frame;)I") ∈ lw_all := lw_g (lw_at lw_m6 67 rfl) rfl
theorem q1344 : (Jvm.Cond.code ({ cls := "RoleLoom$At", name := "place", desc := "(LRoleLoom$Frame;)I" } : Jvm.MethodName) prog_8_method_2_code (4 : Nat) (Option.some Jvm.ClassFile.FieldType.int)) ∈ lw_all := lw_g (lw_at lw_m6 69 rfl) rfl
theorem q1345 : (Jvm.Cond.methodLinkNest "RoleLoom$At" (31 : Nat) ({ cls := "RoleLoom", name := "thrown", desc := "(LRoleLoom$Frame;IJ)LRoleLoom$Thrown;" } : Jvm.MethodName) "RoleLoom") ∈ lw_tbl := lw_at lw_m6 70 rfl
theorem q1361 : (Jvm.Cond.declares ({ cls := "RoleLoom$At", name := "place", desc := "(LRoleLoom$Frame;)I" } : Jvm.MethodName)) ∈ lw_tbl := lw_at lw_m6 86 rfl
theorem q2055 : (Jvm.Cond.castable "RoleLoom$At" "RoleLoom$Act") ∈ lw_tbl := lw_at lw_m9 60 rfl
theorem q2093 : (Jvm.Cond.castable "RoleLoom$At" "java/lang/Object") ∈ lw_tbl := lw_at lw_m9 98 rfl
theorem in_X23 : ∀ w ∈ wsX230, w ∈ lw_all := lw_in wsX230 [917, 918, 919, 916, 914] (by decide +kernel) (by decide +kernel)
/-! RoleLoom$Lay -/
set_option maxRecDepth 100000
def RX24 : String := "RoleLoom$Lay"
def TX24 : u_T := fun k => match k with
  | 0 => ("RoleLoom$Act", "a", "I", true)
  | 1 => ("RoleLoom$Act", "b", "I", true)
  | 2 => ("RoleLoom$Act", "this$0", "LRoleLoom;", true)
  | 3 => ("RoleLoom$Make", "this$0", "LRoleLoom;", true)
  | 4 => ("RoleLoom$At", "this$0", "LRoleLoom;", true)
  | _ => ("RoleLoom$Lay", "this$0", "LRoleLoom;", true)
def tyX24 : Nat → FieldType := fun k => match k with
  | 0 => .int
  | 1 => .int
  | 2 => .object "RoleLoom"
  | 3 => .object "RoleLoom"
  | 4 => .object "RoleLoom"
  | _ => .object "RoleLoom"
abbrev wsX240 : List Cond := u_ws RX24 TX24 6
-- two fields of one name: no nmX24
theorem tyX24_ok : ∀ k, k < 6 → parseFieldDescriptor (TX24 k).2.2.1 = some (tyX24 k) := by decide +kernel
abbrev cX24_init : ByteArray := prog_15_method_1_code
def yX24_init : MethodName := ⟨RX24, "<init>", "(LRoleLoom;II)V"⟩
def dkwX24_init_0 : List UInt8 := [42, 43, 181, 0, 1, 42, 43, 28, 29, 183, 0, 7, 177]
abbrev dktX24_init_0 : List UInt8 := dkwX24_init_0 ++ []
theorem dksX24_init_0 : cX24_init.data.toList.drop 0 = dktX24_init_0 := by decide +kernel
theorem dX24_init_0 : decode cX24_init 0 = .ok (.aload_n 0, 1) := dk_42 (dk_at dksX24_init_0 0 rfl rfl)
theorem dX24_init_1 : decode cX24_init 1 = .ok (.aload_n 1, 1) := dk_43 (dk_at dksX24_init_0 1 rfl rfl)
theorem dX24_init_2 : decode cX24_init 2 = .ok (.putfield 1, 3) := dk_181 0 1 (dk_at dksX24_init_0 2 rfl rfl)
theorem dX24_init_5 : decode cX24_init 5 = .ok (.aload_n 0, 1) := dk_42 (dk_at dksX24_init_0 5 rfl rfl)
theorem dX24_init_6 : decode cX24_init 6 = .ok (.aload_n 1, 1) := dk_43 (dk_at dksX24_init_0 6 rfl rfl)
theorem dX24_init_7 : decode cX24_init 7 = .ok (.iload_n 2, 1) := dk_28 (dk_at dksX24_init_0 7 rfl rfl)
theorem dX24_init_8 : decode cX24_init 8 = .ok (.iload_n 3, 1) := dk_29 (dk_at dksX24_init_0 8 rfl rfl)
theorem dX24_init_9 : decode cX24_init 9 = .ok (.invokespecial 7, 3) := dk_183 0 7 (dk_at dksX24_init_0 9 rfl rfl)
theorem dX24_init_12 : decode cX24_init 12 = .ok (.return_, 1) := dk_177 (dk_at dksX24_init_0 12 rfl rfl)
abbrev cX24_act : ByteArray := prog_15_method_2_code
def yX24_act : MethodName := ⟨RX24, "act", "(LRoleLoom$Frame;J)J"⟩
def dkwX24_act_0 : List UInt8 := [43, 180, 0, 13, 180, 0, 19, 42, 43, 182, 0, 25, 32, 80, 32, 173]
abbrev dktX24_act_0 : List UInt8 := dkwX24_act_0 ++ []
theorem dksX24_act_0 : cX24_act.data.toList.drop 0 = dktX24_act_0 := by decide +kernel
theorem dX24_act_0 : decode cX24_act 0 = .ok (.aload_n 1, 1) := dk_43 (dk_at dksX24_act_0 0 rfl rfl)
theorem dX24_act_1 : decode cX24_act 1 = .ok (.getfield 13, 3) := dk_180 0 13 (dk_at dksX24_act_0 1 rfl rfl)
theorem dX24_act_4 : decode cX24_act 4 = .ok (.getfield 19, 3) := dk_180 0 19 (dk_at dksX24_act_0 4 rfl rfl)
theorem dX24_act_7 : decode cX24_act 7 = .ok (.aload_n 0, 1) := dk_42 (dk_at dksX24_act_0 7 rfl rfl)
theorem dX24_act_8 : decode cX24_act 8 = .ok (.aload_n 1, 1) := dk_43 (dk_at dksX24_act_0 8 rfl rfl)
theorem dX24_act_9 : decode cX24_act 9 = .ok (.invokevirtual 25, 3) := dk_182 0 25 (dk_at dksX24_act_0 9 rfl rfl)
theorem dX24_act_12 : decode cX24_act 12 = .ok (.lload_n 2, 1) := dk_32 (dk_at dksX24_act_0 12 rfl rfl)
theorem dX24_act_13 : decode cX24_act 13 = .ok (.lastore, 1) := dk_80 (dk_at dksX24_act_0 13 rfl rfl)
theorem dX24_act_14 : decode cX24_act 14 = .ok (.lload_n 2, 1) := dk_32 (dk_at dksX24_act_0 14 rfl rfl)
theorem dX24_act_15 : decode cX24_act 15 = .ok (.lreturn, 1) := dk_173 (dk_at dksX24_act_0 15 rfl rfl)
theorem q111 : (Jvm.Cond.initialized "RoleLoom$Lay") ∈ lw_all := lw_g (lw_at lw_m1 36 rfl) rfl
theorem q255 : (Jvm.Cond.fieldLinkNest "RoleLoom$Lay" (13 : Nat) "RoleLoom$Frame" "state" "LRoleLoom$State;" "RoleLoom") ∈ lw_tbl := lw_at lw_m1 180 rfl
theorem q512 : (Jvm.Cond.selects "RoleLoom$Lay" ({ cls := "java/lang/Object", name := "getClass", desc := "()Ljava/lang/Class;" } : Jvm.MethodName) ({ cls := "java/lang/Object", name := "getClass", desc := "()Ljava/lang/Class;" } : Jvm.MethodName)) ∈ lw_all := lw_g (lw_at lw_m2 197 rfl) rfl
theorem q595 : (Jvm.Cond.selects "RoleLoom$Lay" ({ cls := "java/lang/Object", name := "equals", desc := "(Ljava/lang/Object;)Z" } : Jvm.MethodName) ({ cls := "java/lang/Object", name := "equals", desc := "(Ljava/lang/Object;)Z" } : Jvm.MethodName)) ∈ lw_all := lw_g (lw_at lw_m3 40 rfl) rfl
theorem q922 : (Jvm.Cond.instantiable "RoleLoom$Lay" (6 : Nat)) ∈ lw_all := lw_g (lw_at lw_m4 127 rfl) rfl
theorem q924 : (Jvm.Cond.instanceMethod ({ cls := "RoleLoom$Lay", name := "<init>", desc := "(LRoleLoom;II)V" } : Jvm.MethodName)) ∈ lw_all := lw_g (lw_at lw_m4 129 rfl) rfl
theorem q925 : (Jvm.Cond.code ({ cls := "RoleLoom$Lay", name := "<init>", desc := "(LRoleLoom;II)V" } : Jvm.MethodName) prog_15_method_1_code (4 : Nat) (Option.none : Option Jvm.ClassFile.FieldType)) ∈ lw_all := lw_g (lw_at lw_m4 130 rfl) rfl
theorem q926 : (Jvm.Cond.methodLink "RoleLoom$Lay" (7 : Nat) ({ cls := "RoleLoom$At", name := "<init>", desc := "(LRoleLoom;II)V" } : Jvm.MethodName)) ∈ lw_all := lw_g (lw_at lw_m4 131 rfl) rfl
theorem q927 : (Jvm.Cond.fieldLink "RoleLoom$Lay" (1 : Nat) "RoleLoom$Lay" "this$0" "LRoleLoom;") ∈ lw_all := lw_g (lw_at lw_m4 132 rfl) rfl
theorem q928 : (Jvm.Cond.laysFinal "RoleLoom$Lay" "RoleLoom$Lay" "this$0" "LRoleLoom;") ∈ lw_all := lw_g (lw_at lw_m4 133 rfl) rfl
theorem q929 : (Jvm.Cond.soleField "RoleLoom$Lay" "this$0") ∈ lw_all := lw_g (lw_at lw_m4 134 rfl) rfl
theorem q930 : (Jvm.Cond.laysFinal "RoleLoom$Lay" "RoleLoom$At" "this$0" "LRoleLoom;") ∈ lw_all := lw_g (lw_at lw_m4 135 rfl) rfl
theorem q931 : (Jvm.Cond.laysFinal "RoleLoom$Lay" "RoleLoom$Make" "this$0" "LRoleLoom;") ∈ lw_all := lw_g (lw_at lw_m4 136 rfl) rfl
theorem q932 : (Jvm.Cond.laysFinal "RoleLoom$Lay" "RoleLoom$Act" "a" "I") ∈ lw_all := lw_g (lw_at lw_m4 137 rfl) rfl
theorem q933 : (Jvm.Cond.laysFinal "RoleLoom$Lay" "RoleLoom$Act" "b" "I") ∈ lw_all := lw_g (lw_at lw_m4 138 rfl) rfl
theorem q934 : (Jvm.Cond.laysFinal "RoleLoom$Lay" "RoleLoom$Act" "this$0" "LRoleLoom;") ∈ lw_all := lw_g (lw_at lw_m4 139 rfl) rfl
theorem q935 : (Jvm.Cond.superclass "RoleLoom$Lay" "RoleLoom$At") ∈ lw_all := lw_g (lw_at lw_m4 140 rfl) rfl
theorem q1034 : (Jvm.Cond.castable "RoleLoom$Lay" "RoleLoom$Does") ∈ lw_tbl := lw_at lw_m4 239 rfl
theorem q1035 : (Jvm.Cond.selects "RoleLoom$Lay" ({ cls := "RoleLoom$Does", name := "fits", desc := "(LRoleLoom$Part;)Z" } : Jvm.MethodName) ({ cls := "RoleLoom$At", name := "fits", desc := "(LRoleLoom$Part;)Z" } : Jvm.MethodName)) ∈ lw_all := lw_g (lw_at lw_m5 0 rfl) rfl
theorem q1036 : (Jvm.Cond.unhidden "RoleLoom$Lay" "fits" "(LRoleLoom$Part;)Z") ∈ lw_tbl := lw_at lw_m5 1 rfl
theorem q1259 : (Jvm.Cond.fieldLinkNest "RoleLoom$Lay" (19 : Nat) "RoleLoom$State" "rows" "[J" "RoleLoom") ∈ lw_tbl := lw_at lw_m5 224 rfl
theorem q1343 : (Jvm.Cond.selects "RoleLoom$Lay" ({ cls := "RoleLoom$At", name := "place", desc := "(LRoleLoom$Frame;)I" } : Jvm.MethodName) ({ cls := "RoleLoom$At", name := "place", desc := "(LRoleLoom$Frame;)I" } : Jvm.MethodName)) ∈ lw_all := lw_g (lw_at lw_m6 68 rfl) rfl
theorem q1356 : (Jvm.Cond.selects "RoleLoom$Lay" ({ cls := "RoleLoom$Does", name := "act", desc := "(LRoleLoom$Frame;J)J" } : Jvm.MethodName) ({ cls := "RoleLoom$Lay", name := "act", desc := "(LRoleLoom$Frame;J)J" } : Jvm.MethodName)) ∈ lw_all := lw_g (lw_at lw_m6 81 rfl) rfl
theorem q1357 : (Jvm.Cond.instanceMethod ({ cls := "RoleLoom$Lay", name := "act", desc := "(LRoleLoom$Frame;J)J" } : Jvm.MethodName)) ∈ lw_all := lw_g (lw_at lw_m6 82 rfl) rfl
theorem q1358 : (Jvm.Cond.code ({ cls := "RoleLoom$Lay", name := "act", desc := "(LRoleLoom$Frame;J)J" } : Jvm.MethodName) prog_15_method_2_code (4 : Nat) (Option.some Jvm.ClassFile.FieldType.long)) ∈ lw_all := lw_g (lw_at lw_m6 83 rfl) rfl
theorem q1359 : (Jvm.Cond.methodLink "RoleLoom$Lay" (25 : Nat) ({ cls := "RoleLoom$Lay", name := "place", desc := "(LRoleLoom$Frame;)I" } : Jvm.MethodName)) ∈ lw_all := lw_g (lw_at lw_m6 84 rfl) rfl
theorem q1360 : (Jvm.Cond.sameMethod "RoleLoom$Lay" "RoleLoom$At" "place" "(LRoleLoom$Frame;)I") ∈ lw_all := lw_g (lw_at lw_m6 85 rfl) rfl
theorem q1362 : (Jvm.Cond.selects "RoleLoom$Lay" ({ cls := "RoleLoom$Lay", name := "place", desc := "(LRoleLoom$Frame;)I" } : Jvm.MethodName) ({ cls := "RoleLoom$At", name := "place", desc := "(LRoleLoom$Frame;)I" } : Jvm.MethodName)) ∈ lw_all := lw_g (lw_at lw_m6 87 rfl) rfl
theorem q2059 : (Jvm.Cond.castable "RoleLoom$Lay" "RoleLoom$Act") ∈ lw_tbl := lw_at lw_m9 64 rfl
theorem q2094 : (Jvm.Cond.castable "RoleLoom$Lay" "java/lang/Object") ∈ lw_tbl := lw_at lw_m9 99 rfl
theorem in_X24 : ∀ w ∈ wsX240, w ∈ lw_all := lw_in wsX240 [932, 933, 934, 931, 930, 928] (by decide +kernel) (by decide +kernel)
/-! RoleLoom$Ask -/
set_option maxRecDepth 100000
def RX25 : String := "RoleLoom$Ask"
def TX25 : u_T := fun k => match k with
  | 0 => ("RoleLoom$Act", "a", "I", true)
  | 1 => ("RoleLoom$Act", "b", "I", true)
  | 2 => ("RoleLoom$Act", "this$0", "LRoleLoom;", true)
  | 3 => ("RoleLoom$Call", "this$0", "LRoleLoom;", true)
  | _ => ("RoleLoom$Ask", "this$0", "LRoleLoom;", true)
def tyX25 : Nat → FieldType := fun k => match k with
  | 0 => .int
  | 1 => .int
  | 2 => .object "RoleLoom"
  | 3 => .object "RoleLoom"
  | _ => .object "RoleLoom"
abbrev wsX250 : List Cond := u_ws RX25 TX25 5
-- two fields of one name: no nmX25
theorem tyX25_ok : ∀ k, k < 5 → parseFieldDescriptor (TX25 k).2.2.1 = some (tyX25 k) := by decide +kernel
abbrev cX25_init : ByteArray := prog_7_method_1_code
def yX25_init : MethodName := ⟨RX25, "<init>", "(LRoleLoom;II)V"⟩
def dkwX25_init_0 : List UInt8 := [42, 43, 181, 0, 3, 42, 43, 28, 29, 183, 0, 9, 177]
abbrev dktX25_init_0 : List UInt8 := dkwX25_init_0 ++ []
theorem dksX25_init_0 : cX25_init.data.toList.drop 0 = dktX25_init_0 := by decide +kernel
theorem dX25_init_0 : decode cX25_init 0 = .ok (.aload_n 0, 1) := dk_42 (dk_at dksX25_init_0 0 rfl rfl)
theorem dX25_init_1 : decode cX25_init 1 = .ok (.aload_n 1, 1) := dk_43 (dk_at dksX25_init_0 1 rfl rfl)
theorem dX25_init_2 : decode cX25_init 2 = .ok (.putfield 3, 3) := dk_181 0 3 (dk_at dksX25_init_0 2 rfl rfl)
theorem dX25_init_5 : decode cX25_init 5 = .ok (.aload_n 0, 1) := dk_42 (dk_at dksX25_init_0 5 rfl rfl)
theorem dX25_init_6 : decode cX25_init 6 = .ok (.aload_n 1, 1) := dk_43 (dk_at dksX25_init_0 6 rfl rfl)
theorem dX25_init_7 : decode cX25_init 7 = .ok (.iload_n 2, 1) := dk_28 (dk_at dksX25_init_0 7 rfl rfl)
theorem dX25_init_8 : decode cX25_init 8 = .ok (.iload_n 3, 1) := dk_29 (dk_at dksX25_init_0 8 rfl rfl)
theorem dX25_init_9 : decode cX25_init 9 = .ok (.invokespecial 9, 3) := dk_183 0 9 (dk_at dksX25_init_0 9 rfl rfl)
theorem dX25_init_12 : decode cX25_init 12 = .ok (.return_, 1) := dk_177 (dk_at dksX25_init_0 12 rfl rfl)
abbrev cX25_fits : ByteArray := prog_7_method_3_code
def yX25_fits : MethodName := ⟨RX25, "fits", "(LRoleLoom$Part;)Z"⟩
def dkwX25_fits_1 : List UInt8 := [184, 0, 46, 153, 0, 7, 4, 167, 0, 4, 3, 172]
abbrev dktX25_fits_1 : List UInt8 := dkwX25_fits_1 ++ []
def dkwX25_fits_0 : List UInt8 := [42, 180, 0, 27, 3, 43, 180, 0, 42, 4, 100, 184, 0, 46, 153, 0, 20, 42, 180, 0, 35, 3, 16, 11]
abbrev dktX25_fits_0 : List UInt8 := dkwX25_fits_0 ++ dktX25_fits_1
theorem dksX25_fits_0 : cX25_fits.data.toList.drop 0 = dktX25_fits_0 := by decide +kernel
theorem dksX25_fits_1 : cX25_fits.data.toList.drop 24 = dktX25_fits_1 := dk_seg dksX25_fits_0 24 rfl rfl
theorem dX25_fits_0 : decode cX25_fits 0 = .ok (.aload_n 0, 1) := dk_42 (dk_at dksX25_fits_0 0 rfl rfl)
theorem dX25_fits_1 : decode cX25_fits 1 = .ok (.getfield 27, 3) := dk_180 0 27 (dk_at dksX25_fits_0 1 rfl rfl)
theorem dX25_fits_4 : decode cX25_fits 4 = .ok (.iconst 0, 1) := dk_3 (dk_at dksX25_fits_0 4 rfl rfl)
theorem dX25_fits_5 : decode cX25_fits 5 = .ok (.aload_n 1, 1) := dk_43 (dk_at dksX25_fits_0 5 rfl rfl)
theorem dX25_fits_6 : decode cX25_fits 6 = .ok (.getfield 42, 3) := dk_180 0 42 (dk_at dksX25_fits_0 6 rfl rfl)
theorem dX25_fits_9 : decode cX25_fits 9 = .ok (.iconst 1, 1) := dk_4 (dk_at dksX25_fits_0 9 rfl rfl)
theorem dX25_fits_10 : decode cX25_fits 10 = .ok (.isub, 1) := dk_100 (dk_at dksX25_fits_0 10 rfl rfl)
theorem dX25_fits_11 : decode cX25_fits 11 = .ok (.invokestatic 46, 3) := dk_184 0 46 (dk_at dksX25_fits_0 11 rfl rfl)
theorem dX25_fits_14 : decode cX25_fits 14 = .ok (.ifCond .eq 20, 3) := dk_153 0 20 (dk_at dksX25_fits_0 14 rfl rfl)
theorem dX25_fits_17 : decode cX25_fits 17 = .ok (.aload_n 0, 1) := dk_42 (dk_at dksX25_fits_0 17 rfl rfl)
theorem dX25_fits_18 : decode cX25_fits 18 = .ok (.getfield 35, 3) := dk_180 0 35 (dk_at dksX25_fits_0 18 rfl rfl)
theorem dX25_fits_21 : decode cX25_fits 21 = .ok (.iconst 0, 1) := dk_3 (dk_at dksX25_fits_0 21 rfl rfl)
theorem dX25_fits_22 : decode cX25_fits 22 = .ok (.bipush 11, 2) := dk_16 11 (dk_at dksX25_fits_0 22 rfl rfl)
theorem dX25_fits_24 : decode cX25_fits 24 = .ok (.invokestatic 46, 3) := dk_184 0 46 (dk_at dksX25_fits_1 0 rfl rfl)
theorem dX25_fits_27 : decode cX25_fits 27 = .ok (.ifCond .eq 7, 3) := dk_153 0 7 (dk_at dksX25_fits_1 3 rfl rfl)
theorem dX25_fits_30 : decode cX25_fits 30 = .ok (.iconst 1, 1) := dk_4 (dk_at dksX25_fits_1 6 rfl rfl)
theorem dX25_fits_31 : decode cX25_fits 31 = .ok (.goto 4, 3) := dk_167 0 4 (dk_at dksX25_fits_1 7 rfl rfl)
theorem dX25_fits_34 : decode cX25_fits 34 = .ok (.iconst 0, 1) := dk_3 (dk_at dksX25_fits_1 10 rfl rfl)
theorem dX25_fits_35 : decode cX25_fits 35 = .ok (.ireturn, 1) := dk_172 (dk_at dksX25_fits_1 11 rfl rfl)
abbrev cX25_act : ByteArray := prog_7_method_2_code
def yX25_act : MethodName := ⟨RX25, "act", "(LRoleLoom$Frame;J)J"⟩
def dkwX25_act_1 : List UInt8 := [16, 14, 9, 182, 0, 31, 191, 42, 43, 25, 4, 42, 180, 0, 35, 32, 182, 0, 38, 173]
abbrev dktX25_act_1 : List UInt8 := dkwX25_act_1 ++ []
def dkwX25_act_0 : List UInt8 := [43, 180, 0, 15, 180, 0, 21, 42, 180, 0, 27, 50, 58, 4, 25, 4, 199, 0, 15, 42, 180, 0, 3, 43]
abbrev dktX25_act_0 : List UInt8 := dkwX25_act_0 ++ dktX25_act_1
theorem dksX25_act_0 : cX25_act.data.toList.drop 0 = dktX25_act_0 := by decide +kernel
theorem dksX25_act_1 : cX25_act.data.toList.drop 24 = dktX25_act_1 := dk_seg dksX25_act_0 24 rfl rfl
theorem dX25_act_0 : decode cX25_act 0 = .ok (.aload_n 1, 1) := dk_43 (dk_at dksX25_act_0 0 rfl rfl)
theorem dX25_act_1 : decode cX25_act 1 = .ok (.getfield 15, 3) := dk_180 0 15 (dk_at dksX25_act_0 1 rfl rfl)
theorem dX25_act_4 : decode cX25_act 4 = .ok (.getfield 21, 3) := dk_180 0 21 (dk_at dksX25_act_0 4 rfl rfl)
theorem dX25_act_7 : decode cX25_act 7 = .ok (.aload_n 0, 1) := dk_42 (dk_at dksX25_act_0 7 rfl rfl)
theorem dX25_act_8 : decode cX25_act 8 = .ok (.getfield 27, 3) := dk_180 0 27 (dk_at dksX25_act_0 8 rfl rfl)
theorem dX25_act_11 : decode cX25_act 11 = .ok (.aaload, 1) := dk_50 (dk_at dksX25_act_0 11 rfl rfl)
theorem dX25_act_12 : decode cX25_act 12 = .ok (.astore 4, 2) := dk_58 4 (dk_at dksX25_act_0 12 rfl rfl)
theorem dX25_act_14 : decode cX25_act 14 = .ok (.aload 4, 2) := dk_25 4 (dk_at dksX25_act_0 14 rfl rfl)
theorem dX25_act_16 : decode cX25_act 16 = .ok (.ifnonnull 15, 3) := dk_199 0 15 (dk_at dksX25_act_0 16 rfl rfl)
theorem dX25_act_19 : decode cX25_act 19 = .ok (.aload_n 0, 1) := dk_42 (dk_at dksX25_act_0 19 rfl rfl)
theorem dX25_act_20 : decode cX25_act 20 = .ok (.getfield 3, 3) := dk_180 0 3 (dk_at dksX25_act_0 20 rfl rfl)
theorem dX25_act_23 : decode cX25_act 23 = .ok (.aload_n 1, 1) := dk_43 (dk_at dksX25_act_0 23 rfl rfl)
theorem dX25_act_24 : decode cX25_act 24 = .ok (.bipush 14, 2) := dk_16 14 (dk_at dksX25_act_1 0 rfl rfl)
theorem dX25_act_26 : decode cX25_act 26 = .ok (.lconst 0, 1) := dk_9 (dk_at dksX25_act_1 2 rfl rfl)
theorem dX25_act_27 : decode cX25_act 27 = .ok (.invokevirtual 31, 3) := dk_182 0 31 (dk_at dksX25_act_1 3 rfl rfl)
theorem dX25_act_30 : decode cX25_act 30 = .ok (.athrow, 1) := dk_191 (dk_at dksX25_act_1 6 rfl rfl)
theorem dX25_act_31 : decode cX25_act 31 = .ok (.aload_n 0, 1) := dk_42 (dk_at dksX25_act_1 7 rfl rfl)
theorem dX25_act_32 : decode cX25_act 32 = .ok (.aload_n 1, 1) := dk_43 (dk_at dksX25_act_1 8 rfl rfl)
theorem dX25_act_33 : decode cX25_act 33 = .ok (.aload 4, 2) := dk_25 4 (dk_at dksX25_act_1 9 rfl rfl)
theorem dX25_act_35 : decode cX25_act 35 = .ok (.aload_n 0, 1) := dk_42 (dk_at dksX25_act_1 11 rfl rfl)
theorem dX25_act_36 : decode cX25_act 36 = .ok (.getfield 35, 3) := dk_180 0 35 (dk_at dksX25_act_1 12 rfl rfl)
theorem dX25_act_39 : decode cX25_act 39 = .ok (.lload_n 2, 1) := dk_32 (dk_at dksX25_act_1 15 rfl rfl)
theorem dX25_act_40 : decode cX25_act 40 = .ok (.invokevirtual 38, 3) := dk_182 0 38 (dk_at dksX25_act_1 16 rfl rfl)
theorem dX25_act_43 : decode cX25_act 43 = .ok (.lreturn, 1) := dk_173 (dk_at dksX25_act_1 19 rfl rfl)
theorem q112 : (Jvm.Cond.initialized "RoleLoom$Ask") ∈ lw_all := lw_g (lw_at lw_m1 37 rfl) rfl
theorem q252 : (Jvm.Cond.fieldLinkNest "RoleLoom$Ask" (15 : Nat) "RoleLoom$Frame" "state" "LRoleLoom$State;" "RoleLoom") ∈ lw_tbl := lw_at lw_m1 177 rfl
theorem q438 : (Jvm.Cond.fieldLinkNest "RoleLoom$Ask" (42 : Nat) "RoleLoom$Part" "holders" "I" "RoleLoom") ∈ lw_tbl := lw_at lw_m2 123 rfl
theorem q505 : (Jvm.Cond.selects "RoleLoom$Ask" ({ cls := "java/lang/Object", name := "getClass", desc := "()Ljava/lang/Class;" } : Jvm.MethodName) ({ cls := "java/lang/Object", name := "getClass", desc := "()Ljava/lang/Class;" } : Jvm.MethodName)) ∈ lw_all := lw_g (lw_at lw_m2 190 rfl) rfl
theorem q588 : (Jvm.Cond.selects "RoleLoom$Ask" ({ cls := "java/lang/Object", name := "equals", desc := "(Ljava/lang/Object;)Z" } : Jvm.MethodName) ({ cls := "java/lang/Object", name := "equals", desc := "(Ljava/lang/Object;)Z" } : Jvm.MethodName)) ∈ lw_all := lw_g (lw_at lw_m3 33 rfl) rfl
theorem q685 : (Jvm.Cond.fieldLink "RoleLoom$Ask" (27 : Nat) "RoleLoom$Ask" "a" "I") ∈ lw_all := lw_g (lw_at lw_m3 130 rfl) rfl
theorem q686 : (Jvm.Cond.sameField "RoleLoom$Ask" "RoleLoom$Act" "a" "I") ∈ lw_all := lw_g (lw_at lw_m3 131 rfl) rfl
theorem q706 : (Jvm.Cond.fieldLink "RoleLoom$Ask" (35 : Nat) "RoleLoom$Ask" "b" "I") ∈ lw_all := lw_g (lw_at lw_m3 151 rfl) rfl
theorem q707 : (Jvm.Cond.sameField "RoleLoom$Ask" "RoleLoom$Act" "b" "I") ∈ lw_all := lw_g (lw_at lw_m3 152 rfl) rfl
theorem q937 : (Jvm.Cond.instantiable "RoleLoom$Ask" (5 : Nat)) ∈ lw_all := lw_g (lw_at lw_m4 142 rfl) rfl
theorem q939 : (Jvm.Cond.instanceMethod ({ cls := "RoleLoom$Ask", name := "<init>", desc := "(LRoleLoom;II)V" } : Jvm.MethodName)) ∈ lw_all := lw_g (lw_at lw_m4 144 rfl) rfl
theorem q940 : (Jvm.Cond.code ({ cls := "RoleLoom$Ask", name := "<init>", desc := "(LRoleLoom;II)V" } : Jvm.MethodName) prog_7_method_1_code (4 : Nat) (Option.none : Option Jvm.ClassFile.FieldType)) ∈ lw_all := lw_g (lw_at lw_m4 145 rfl) rfl
theorem q941 : (Jvm.Cond.methodLink "RoleLoom$Ask" (9 : Nat) ({ cls := "RoleLoom$Call", name := "<init>", desc := "(LRoleLoom;II)V" } : Jvm.MethodName)) ∈ lw_all := lw_g (lw_at lw_m4 146 rfl) rfl
theorem q942 : (Jvm.Cond.fieldLink "RoleLoom$Ask" (3 : Nat) "RoleLoom$Ask" "this$0" "LRoleLoom;") ∈ lw_all := lw_g (lw_at lw_m4 147 rfl) rfl
theorem q943 : (Jvm.Cond.laysFinal "RoleLoom$Ask" "RoleLoom$Ask" "this$0" "LRoleLoom;") ∈ lw_all := lw_g (lw_at lw_m4 148 rfl) rfl
theorem q944 : (Jvm.Cond.soleField "RoleLoom$Ask" "this$0") ∈ lw_all := lw_g (lw_at lw_m4 149 rfl) rfl
theorem q945 : (Jvm.Cond.laysFinal "RoleLoom$Ask" "RoleLoom$Call" "this$0" "LRoleLoom;") ∈ lw_all := lw_g (lw_at lw_m4 150 rfl) rfl
theorem q946 : (Jvm.Cond.laysFinal "RoleLoom$Ask" "RoleLoom$Act" "a" "I") ∈ lw_all := lw_g (lw_at lw_m4 151 rfl) rfl
theorem q947 : (Jvm.Cond.laysFinal "RoleLoom$Ask" "RoleLoom$Act" "b" "I") ∈ lw_all := lw_g (lw_at lw_m4 152 rfl) rfl
theorem q948 : (Jvm.Cond.laysFinal "RoleLoom$Ask" "RoleLoom$Act" "this$0" "LRoleLoom;") ∈ lw_all := lw_g (lw_at lw_m4 153 rfl) rfl
theorem q949 : (Jvm.Cond.superclass "RoleLoom$Ask" "RoleLoom$Call") ∈ lw_all := lw_g (lw_at lw_m4 154 rfl) rfl
theorem q995 : (Jvm.Cond.castable "RoleLoom$Ask" "RoleLoom$Does") ∈ lw_tbl := lw_at lw_m4 200 rfl
theorem q996 : (Jvm.Cond.selects "RoleLoom$Ask" ({ cls := "RoleLoom$Does", name := "fits", desc := "(LRoleLoom$Part;)Z" } : Jvm.MethodName) ({ cls := "RoleLoom$Ask", name := "fits", desc := "(LRoleLoom$Part;)Z" } : Jvm.MethodName)) ∈ lw_all := lw_g (lw_at lw_m4 201 rfl) rfl
theorem q997 : (Jvm.Cond.unhidden "RoleLoom$Ask" "fits" "(LRoleLoom$Part;)Z") ∈ lw_tbl := lw_at lw_m4 202 rfl
theorem q998 : (Jvm.Cond.instanceMethod ({ cls := "RoleLoom$Ask", name := "fits", desc := "(LRoleLoom$Part;)Z" } : Jvm.MethodName)) ∈ lw_all := lw_g (lw_at lw_m4 203 rfl) rfl
theorem q999 : (Jvm.Cond.publicMethod ({ cls := "RoleLoom$Ask", name := "fits", desc := "(LRoleLoom$Part;)Z" } : Jvm.MethodName)) ∈ lw_tbl := lw_at lw_m4 204 rfl
theorem q1000 : (Jvm.Cond.code ({ cls := "RoleLoom$Ask", name := "fits", desc := "(LRoleLoom$Part;)Z" } : Jvm.MethodName) prog_7_method_3_code (2 : Nat) (Option.some Jvm.ClassFile.FieldType.boolean)) ∈ lw_all := lw_g (lw_at lw_m4 205 rfl) rfl
theorem q1001 : (Jvm.Cond.methodLinkNest "RoleLoom$Ask" (46 : Nat) ({ cls := "RoleLoom", name := "in", desc := "(III)Z" } : Jvm.MethodName) "RoleLoom") ∈ lw_tbl := lw_at lw_m4 206 rfl
theorem q1269 : (Jvm.Cond.fieldLinkNest "RoleLoom$Ask" (21 : Nat) "RoleLoom$State" "holders" "[LRoleLoom$Thing;" "RoleLoom") ∈ lw_tbl := lw_at lw_m5 234 rfl
theorem q1320 : (Jvm.Cond.selects "RoleLoom$Ask" ({ cls := "RoleLoom$Does", name := "act", desc := "(LRoleLoom$Frame;J)J" } : Jvm.MethodName) ({ cls := "RoleLoom$Ask", name := "act", desc := "(LRoleLoom$Frame;J)J" } : Jvm.MethodName)) ∈ lw_all := lw_g (lw_at lw_m6 45 rfl) rfl
theorem q1321 : (Jvm.Cond.instanceMethod ({ cls := "RoleLoom$Ask", name := "act", desc := "(LRoleLoom$Frame;J)J" } : Jvm.MethodName)) ∈ lw_all := lw_g (lw_at lw_m6 46 rfl) rfl
theorem q1322 : (Jvm.Cond.code ({ cls := "RoleLoom$Ask", name := "act", desc := "(LRoleLoom$Frame;J)J" } : Jvm.MethodName) prog_7_method_2_code (5 : Nat) (Option.some Jvm.ClassFile.FieldType.long)) ∈ lw_all := lw_g (lw_at lw_m6 47 rfl) rfl
theorem q1323 : (Jvm.Cond.methodLinkNest "RoleLoom$Ask" (31 : Nat) ({ cls := "RoleLoom", name := "thrown", desc := "(LRoleLoom$Frame;IJ)LRoleLoom$Thrown;" } : Jvm.MethodName) "RoleLoom") ∈ lw_tbl := lw_at lw_m6 48 rfl
theorem q1324 : (Jvm.Cond.methodLink "RoleLoom$Ask" (38 : Nat) ({ cls := "RoleLoom$Ask", name := "on", desc := "(LRoleLoom$Frame;LRoleLoom$Thing;IJ)J" } : Jvm.MethodName)) ∈ lw_all := lw_g (lw_at lw_m6 49 rfl) rfl
theorem q1325 : (Jvm.Cond.sameMethod "RoleLoom$Ask" "RoleLoom$Call" "on" "(LRoleLoom$Frame;LRoleLoom$Thing;IJ)J") ∈ lw_all := lw_g (lw_at lw_m6 50 rfl) rfl
theorem q1327 : (Jvm.Cond.selects "RoleLoom$Ask" ({ cls := "RoleLoom$Ask", name := "on", desc := "(LRoleLoom$Frame;LRoleLoom$Thing;IJ)J" } : Jvm.MethodName) ({ cls := "RoleLoom$Call", name := "on", desc := "(LRoleLoom$Frame;LRoleLoom$Thing;IJ)J" } : Jvm.MethodName)) ∈ lw_all := lw_g (lw_at lw_m6 52 rfl) rfl
theorem q2047 : (Jvm.Cond.selects "RoleLoom$Ask" ({ cls := "RoleLoom$Call", name := "on", desc := "(LRoleLoom$Frame;LRoleLoom$Thing;IJ)J" } : Jvm.MethodName) ({ cls := "RoleLoom$Call", name := "on", desc := "(LRoleLoom$Frame;LRoleLoom$Thing;IJ)J" } : Jvm.MethodName)) ∈ lw_all := lw_g (lw_at lw_m9 52 rfl) rfl
theorem q2054 : (Jvm.Cond.castable "RoleLoom$Ask" "RoleLoom$Act") ∈ lw_tbl := lw_at lw_m9 59 rfl
theorem q2095 : (Jvm.Cond.castable "RoleLoom$Ask" "java/lang/Object") ∈ lw_tbl := lw_at lw_m9 100 rfl
theorem in_X25 : ∀ w ∈ wsX250, w ∈ lw_all := lw_in wsX250 [946, 947, 948, 945, 943] (by decide +kernel) (by decide +kernel)
/-! RoleLoom$As -/
set_option maxRecDepth 100000
def RX26 : String := "RoleLoom$As"
def TX26 : u_T := fun k => match k with
  | 0 => ("RoleLoom$Act", "a", "I", true)
  | 1 => ("RoleLoom$Act", "b", "I", true)
  | 2 => ("RoleLoom$Act", "this$0", "LRoleLoom;", true)
  | _ => ("RoleLoom$As", "this$0", "LRoleLoom;", true)
def tyX26 : Nat → FieldType := fun k => match k with
  | 0 => .int
  | 1 => .int
  | 2 => .object "RoleLoom"
  | _ => .object "RoleLoom"
abbrev wsX260 : List Cond := u_ws RX26 TX26 4
-- two fields of one name: no nmX26
theorem tyX26_ok : ∀ k, k < 4 → parseFieldDescriptor (TX26 k).2.2.1 = some (tyX26 k) := by decide +kernel
abbrev cX26_init : ByteArray := prog_6_method_1_code
def yX26_init : MethodName := ⟨RX26, "<init>", "(LRoleLoom;II)V"⟩
def dkwX26_init_0 : List UInt8 := [42, 43, 181, 0, 3, 42, 43, 28, 29, 183, 0, 9, 177]
abbrev dktX26_init_0 : List UInt8 := dkwX26_init_0 ++ []
theorem dksX26_init_0 : cX26_init.data.toList.drop 0 = dktX26_init_0 := by decide +kernel
theorem dX26_init_0 : decode cX26_init 0 = .ok (.aload_n 0, 1) := dk_42 (dk_at dksX26_init_0 0 rfl rfl)
theorem dX26_init_1 : decode cX26_init 1 = .ok (.aload_n 1, 1) := dk_43 (dk_at dksX26_init_0 1 rfl rfl)
theorem dX26_init_2 : decode cX26_init 2 = .ok (.putfield 3, 3) := dk_181 0 3 (dk_at dksX26_init_0 2 rfl rfl)
theorem dX26_init_5 : decode cX26_init 5 = .ok (.aload_n 0, 1) := dk_42 (dk_at dksX26_init_0 5 rfl rfl)
theorem dX26_init_6 : decode cX26_init 6 = .ok (.aload_n 1, 1) := dk_43 (dk_at dksX26_init_0 6 rfl rfl)
theorem dX26_init_7 : decode cX26_init 7 = .ok (.iload_n 2, 1) := dk_28 (dk_at dksX26_init_0 7 rfl rfl)
theorem dX26_init_8 : decode cX26_init 8 = .ok (.iload_n 3, 1) := dk_29 (dk_at dksX26_init_0 8 rfl rfl)
theorem dX26_init_9 : decode cX26_init 9 = .ok (.invokespecial 9, 3) := dk_183 0 9 (dk_at dksX26_init_0 9 rfl rfl)
theorem dX26_init_12 : decode cX26_init 12 = .ok (.return_, 1) := dk_177 (dk_at dksX26_init_0 12 rfl rfl)
abbrev cX26_fits : ByteArray := prog_6_method_3_code
def yX26_fits : MethodName := ⟨RX26, "fits", "(LRoleLoom$Part;)Z"⟩
def dkwX26_fits_1 : List UInt8 := [184, 0, 68, 153, 0, 7, 4, 167, 0, 4, 3, 172]
abbrev dktX26_fits_1 : List UInt8 := dkwX26_fits_1 ++ []
def dkwX26_fits_0 : List UInt8 := [42, 180, 0, 27, 3, 43, 180, 0, 64, 4, 100, 184, 0, 68, 153, 0, 20, 42, 180, 0, 35, 3, 16, 23]
abbrev dktX26_fits_0 : List UInt8 := dkwX26_fits_0 ++ dktX26_fits_1
theorem dksX26_fits_0 : cX26_fits.data.toList.drop 0 = dktX26_fits_0 := by decide +kernel
theorem dksX26_fits_1 : cX26_fits.data.toList.drop 24 = dktX26_fits_1 := dk_seg dksX26_fits_0 24 rfl rfl
theorem dX26_fits_0 : decode cX26_fits 0 = .ok (.aload_n 0, 1) := dk_42 (dk_at dksX26_fits_0 0 rfl rfl)
theorem dX26_fits_1 : decode cX26_fits 1 = .ok (.getfield 27, 3) := dk_180 0 27 (dk_at dksX26_fits_0 1 rfl rfl)
theorem dX26_fits_4 : decode cX26_fits 4 = .ok (.iconst 0, 1) := dk_3 (dk_at dksX26_fits_0 4 rfl rfl)
theorem dX26_fits_5 : decode cX26_fits 5 = .ok (.aload_n 1, 1) := dk_43 (dk_at dksX26_fits_0 5 rfl rfl)
theorem dX26_fits_6 : decode cX26_fits 6 = .ok (.getfield 64, 3) := dk_180 0 64 (dk_at dksX26_fits_0 6 rfl rfl)
theorem dX26_fits_9 : decode cX26_fits 9 = .ok (.iconst 1, 1) := dk_4 (dk_at dksX26_fits_0 9 rfl rfl)
theorem dX26_fits_10 : decode cX26_fits 10 = .ok (.isub, 1) := dk_100 (dk_at dksX26_fits_0 10 rfl rfl)
theorem dX26_fits_11 : decode cX26_fits 11 = .ok (.invokestatic 68, 3) := dk_184 0 68 (dk_at dksX26_fits_0 11 rfl rfl)
theorem dX26_fits_14 : decode cX26_fits 14 = .ok (.ifCond .eq 20, 3) := dk_153 0 20 (dk_at dksX26_fits_0 14 rfl rfl)
theorem dX26_fits_17 : decode cX26_fits 17 = .ok (.aload_n 0, 1) := dk_42 (dk_at dksX26_fits_0 17 rfl rfl)
theorem dX26_fits_18 : decode cX26_fits 18 = .ok (.getfield 35, 3) := dk_180 0 35 (dk_at dksX26_fits_0 18 rfl rfl)
theorem dX26_fits_21 : decode cX26_fits 21 = .ok (.iconst 0, 1) := dk_3 (dk_at dksX26_fits_0 21 rfl rfl)
theorem dX26_fits_22 : decode cX26_fits 22 = .ok (.bipush 23, 2) := dk_16 23 (dk_at dksX26_fits_0 22 rfl rfl)
theorem dX26_fits_24 : decode cX26_fits 24 = .ok (.invokestatic 68, 3) := dk_184 0 68 (dk_at dksX26_fits_1 0 rfl rfl)
theorem dX26_fits_27 : decode cX26_fits 27 = .ok (.ifCond .eq 7, 3) := dk_153 0 7 (dk_at dksX26_fits_1 3 rfl rfl)
theorem dX26_fits_30 : decode cX26_fits 30 = .ok (.iconst 1, 1) := dk_4 (dk_at dksX26_fits_1 6 rfl rfl)
theorem dX26_fits_31 : decode cX26_fits 31 = .ok (.goto 4, 3) := dk_167 0 4 (dk_at dksX26_fits_1 7 rfl rfl)
theorem dX26_fits_34 : decode cX26_fits 34 = .ok (.iconst 0, 1) := dk_3 (dk_at dksX26_fits_1 10 rfl rfl)
theorem dX26_fits_35 : decode cX26_fits 35 = .ok (.ireturn, 1) := dk_172 (dk_at dksX26_fits_1 11 rfl rfl)
abbrev cX26_act : ByteArray := prog_6_method_2_code
def yX26_act : MethodName := ⟨RX26, "act", "(LRoleLoom$Frame;J)J"⟩
def dkwX26_act_3 : List UInt8 := [184, 0, 60, 154, 0, 15, 42, 180, 0, 3, 43, 16, 16, 9, 182, 0, 31, 191, 10, 173]
abbrev dktX26_act_3 : List UInt8 := dkwX26_act_3 ++ []
def dkwX26_act_2 : List UInt8 := [25, 4, 180, 0, 48, 42, 180, 0, 3, 180, 0, 38, 42, 180, 0, 35, 182, 0, 54, 192, 0, 58]
abbrev dktX26_act_2 : List UInt8 := dkwX26_act_2 ++ dktX26_act_3
def dkwX26_act_1 : List UInt8 := [16, 14, 9, 182, 0, 31, 191, 42, 180, 0, 35, 42, 180, 0, 3, 180, 0, 38, 182, 0, 42, 162, 0, 31]
abbrev dktX26_act_1 : List UInt8 := dkwX26_act_1 ++ dktX26_act_2
def dkwX26_act_0 : List UInt8 := [43, 180, 0, 15, 180, 0, 21, 42, 180, 0, 27, 50, 58, 4, 25, 4, 199, 0, 15, 42, 180, 0, 3, 43]
abbrev dktX26_act_0 : List UInt8 := dkwX26_act_0 ++ dktX26_act_1
theorem dksX26_act_0 : cX26_act.data.toList.drop 0 = dktX26_act_0 := by decide +kernel
theorem dksX26_act_1 : cX26_act.data.toList.drop 24 = dktX26_act_1 := dk_seg dksX26_act_0 24 rfl rfl
theorem dksX26_act_2 : cX26_act.data.toList.drop 48 = dktX26_act_2 := dk_seg dksX26_act_1 24 rfl rfl
theorem dksX26_act_3 : cX26_act.data.toList.drop 70 = dktX26_act_3 := dk_seg dksX26_act_2 22 rfl rfl
theorem dX26_act_0 : decode cX26_act 0 = .ok (.aload_n 1, 1) := dk_43 (dk_at dksX26_act_0 0 rfl rfl)
theorem dX26_act_1 : decode cX26_act 1 = .ok (.getfield 15, 3) := dk_180 0 15 (dk_at dksX26_act_0 1 rfl rfl)
theorem dX26_act_4 : decode cX26_act 4 = .ok (.getfield 21, 3) := dk_180 0 21 (dk_at dksX26_act_0 4 rfl rfl)
theorem dX26_act_7 : decode cX26_act 7 = .ok (.aload_n 0, 1) := dk_42 (dk_at dksX26_act_0 7 rfl rfl)
theorem dX26_act_8 : decode cX26_act 8 = .ok (.getfield 27, 3) := dk_180 0 27 (dk_at dksX26_act_0 8 rfl rfl)
theorem dX26_act_11 : decode cX26_act 11 = .ok (.aaload, 1) := dk_50 (dk_at dksX26_act_0 11 rfl rfl)
theorem dX26_act_12 : decode cX26_act 12 = .ok (.astore 4, 2) := dk_58 4 (dk_at dksX26_act_0 12 rfl rfl)
theorem dX26_act_14 : decode cX26_act 14 = .ok (.aload 4, 2) := dk_25 4 (dk_at dksX26_act_0 14 rfl rfl)
theorem dX26_act_16 : decode cX26_act 16 = .ok (.ifnonnull 15, 3) := dk_199 0 15 (dk_at dksX26_act_0 16 rfl rfl)
theorem dX26_act_19 : decode cX26_act 19 = .ok (.aload_n 0, 1) := dk_42 (dk_at dksX26_act_0 19 rfl rfl)
theorem dX26_act_20 : decode cX26_act 20 = .ok (.getfield 3, 3) := dk_180 0 3 (dk_at dksX26_act_0 20 rfl rfl)
theorem dX26_act_23 : decode cX26_act 23 = .ok (.aload_n 1, 1) := dk_43 (dk_at dksX26_act_0 23 rfl rfl)
theorem dX26_act_24 : decode cX26_act 24 = .ok (.bipush 14, 2) := dk_16 14 (dk_at dksX26_act_1 0 rfl rfl)
theorem dX26_act_26 : decode cX26_act 26 = .ok (.lconst 0, 1) := dk_9 (dk_at dksX26_act_1 2 rfl rfl)
theorem dX26_act_27 : decode cX26_act 27 = .ok (.invokevirtual 31, 3) := dk_182 0 31 (dk_at dksX26_act_1 3 rfl rfl)
theorem dX26_act_30 : decode cX26_act 30 = .ok (.athrow, 1) := dk_191 (dk_at dksX26_act_1 6 rfl rfl)
theorem dX26_act_31 : decode cX26_act 31 = .ok (.aload_n 0, 1) := dk_42 (dk_at dksX26_act_1 7 rfl rfl)
theorem dX26_act_32 : decode cX26_act 32 = .ok (.getfield 35, 3) := dk_180 0 35 (dk_at dksX26_act_1 8 rfl rfl)
theorem dX26_act_35 : decode cX26_act 35 = .ok (.aload_n 0, 1) := dk_42 (dk_at dksX26_act_1 11 rfl rfl)
theorem dX26_act_36 : decode cX26_act 36 = .ok (.getfield 3, 3) := dk_180 0 3 (dk_at dksX26_act_1 12 rfl rfl)
theorem dX26_act_39 : decode cX26_act 39 = .ok (.getfield 38, 3) := dk_180 0 38 (dk_at dksX26_act_1 15 rfl rfl)
theorem dX26_act_42 : decode cX26_act 42 = .ok (.invokevirtual 42, 3) := dk_182 0 42 (dk_at dksX26_act_1 18 rfl rfl)
theorem dX26_act_45 : decode cX26_act 45 = .ok (.if_icmp .ge 31, 3) := dk_162 0 31 (dk_at dksX26_act_1 21 rfl rfl)
theorem dX26_act_48 : decode cX26_act 48 = .ok (.aload 4, 2) := dk_25 4 (dk_at dksX26_act_2 0 rfl rfl)
theorem dX26_act_50 : decode cX26_act 50 = .ok (.getfield 48, 3) := dk_180 0 48 (dk_at dksX26_act_2 2 rfl rfl)
theorem dX26_act_53 : decode cX26_act 53 = .ok (.aload_n 0, 1) := dk_42 (dk_at dksX26_act_2 5 rfl rfl)
theorem dX26_act_54 : decode cX26_act 54 = .ok (.getfield 3, 3) := dk_180 0 3 (dk_at dksX26_act_2 6 rfl rfl)
theorem dX26_act_57 : decode cX26_act 57 = .ok (.getfield 38, 3) := dk_180 0 38 (dk_at dksX26_act_2 9 rfl rfl)
theorem dX26_act_60 : decode cX26_act 60 = .ok (.aload_n 0, 1) := dk_42 (dk_at dksX26_act_2 12 rfl rfl)
theorem dX26_act_61 : decode cX26_act 61 = .ok (.getfield 35, 3) := dk_180 0 35 (dk_at dksX26_act_2 13 rfl rfl)
theorem dX26_act_64 : decode cX26_act 64 = .ok (.invokevirtual 54, 3) := dk_182 0 54 (dk_at dksX26_act_2 16 rfl rfl)
theorem dX26_act_67 : decode cX26_act 67 = .ok (.checkcast 58, 3) := dk_192 0 58 (dk_at dksX26_act_2 19 rfl rfl)
theorem dX26_act_70 : decode cX26_act 70 = .ok (.invokestatic 60, 3) := dk_184 0 60 (dk_at dksX26_act_3 0 rfl rfl)
theorem dX26_act_73 : decode cX26_act 73 = .ok (.ifCond .ne 15, 3) := dk_154 0 15 (dk_at dksX26_act_3 3 rfl rfl)
theorem dX26_act_76 : decode cX26_act 76 = .ok (.aload_n 0, 1) := dk_42 (dk_at dksX26_act_3 6 rfl rfl)
theorem dX26_act_77 : decode cX26_act 77 = .ok (.getfield 3, 3) := dk_180 0 3 (dk_at dksX26_act_3 7 rfl rfl)
theorem dX26_act_80 : decode cX26_act 80 = .ok (.aload_n 1, 1) := dk_43 (dk_at dksX26_act_3 10 rfl rfl)
theorem dX26_act_81 : decode cX26_act 81 = .ok (.bipush 16, 2) := dk_16 16 (dk_at dksX26_act_3 11 rfl rfl)
theorem dX26_act_83 : decode cX26_act 83 = .ok (.lconst 0, 1) := dk_9 (dk_at dksX26_act_3 13 rfl rfl)
theorem dX26_act_84 : decode cX26_act 84 = .ok (.invokevirtual 31, 3) := dk_182 0 31 (dk_at dksX26_act_3 14 rfl rfl)
theorem dX26_act_87 : decode cX26_act 87 = .ok (.athrow, 1) := dk_191 (dk_at dksX26_act_3 17 rfl rfl)
theorem dX26_act_88 : decode cX26_act 88 = .ok (.lconst 1, 1) := dk_10 (dk_at dksX26_act_3 18 rfl rfl)
theorem dX26_act_89 : decode cX26_act 89 = .ok (.lreturn, 1) := dk_173 (dk_at dksX26_act_3 19 rfl rfl)
theorem q113 : (Jvm.Cond.initialized "RoleLoom$As") ∈ lw_all := lw_g (lw_at lw_m1 38 rfl) rfl
theorem q251 : (Jvm.Cond.fieldLinkNest "RoleLoom$As" (15 : Nat) "RoleLoom$Frame" "state" "LRoleLoom$State;" "RoleLoom") ∈ lw_tbl := lw_at lw_m1 176 rfl
theorem q299 : (Jvm.Cond.fieldLinkNest "RoleLoom$As" (38 : Nat) "RoleLoom" "roles" "Ljava/util/ArrayList;" "RoleLoom") ∈ lw_tbl := lw_at lw_m1 224 rfl
theorem q437 : (Jvm.Cond.fieldLinkNest "RoleLoom$As" (64 : Nat) "RoleLoom$Part" "holders" "I" "RoleLoom") ∈ lw_tbl := lw_at lw_m2 122 rfl
theorem q504 : (Jvm.Cond.selects "RoleLoom$As" ({ cls := "java/lang/Object", name := "getClass", desc := "()Ljava/lang/Class;" } : Jvm.MethodName) ({ cls := "java/lang/Object", name := "getClass", desc := "()Ljava/lang/Class;" } : Jvm.MethodName)) ∈ lw_all := lw_g (lw_at lw_m2 189 rfl) rfl
theorem q587 : (Jvm.Cond.selects "RoleLoom$As" ({ cls := "java/lang/Object", name := "equals", desc := "(Ljava/lang/Object;)Z" } : Jvm.MethodName) ({ cls := "java/lang/Object", name := "equals", desc := "(Ljava/lang/Object;)Z" } : Jvm.MethodName)) ∈ lw_all := lw_g (lw_at lw_m3 32 rfl) rfl
theorem q683 : (Jvm.Cond.fieldLink "RoleLoom$As" (27 : Nat) "RoleLoom$As" "a" "I") ∈ lw_all := lw_g (lw_at lw_m3 128 rfl) rfl
theorem q684 : (Jvm.Cond.sameField "RoleLoom$As" "RoleLoom$Act" "a" "I") ∈ lw_all := lw_g (lw_at lw_m3 129 rfl) rfl
theorem q702 : (Jvm.Cond.fieldLink "RoleLoom$As" (35 : Nat) "RoleLoom$As" "b" "I") ∈ lw_all := lw_g (lw_at lw_m3 147 rfl) rfl
theorem q703 : (Jvm.Cond.sameField "RoleLoom$As" "RoleLoom$Act" "b" "I") ∈ lw_all := lw_g (lw_at lw_m3 148 rfl) rfl
theorem q951 : (Jvm.Cond.instantiable "RoleLoom$As" (4 : Nat)) ∈ lw_all := lw_g (lw_at lw_m4 156 rfl) rfl
theorem q953 : (Jvm.Cond.instanceMethod ({ cls := "RoleLoom$As", name := "<init>", desc := "(LRoleLoom;II)V" } : Jvm.MethodName)) ∈ lw_all := lw_g (lw_at lw_m4 158 rfl) rfl
theorem q954 : (Jvm.Cond.code ({ cls := "RoleLoom$As", name := "<init>", desc := "(LRoleLoom;II)V" } : Jvm.MethodName) prog_6_method_1_code (4 : Nat) (Option.none : Option Jvm.ClassFile.FieldType)) ∈ lw_all := lw_g (lw_at lw_m4 159 rfl) rfl
theorem q955 : (Jvm.Cond.methodLink "RoleLoom$As" (9 : Nat) ({ cls := "RoleLoom$Act", name := "<init>", desc := "(LRoleLoom;II)V" } : Jvm.MethodName)) ∈ lw_all := lw_g (lw_at lw_m4 160 rfl) rfl
theorem q956 : (Jvm.Cond.fieldLink "RoleLoom$As" (3 : Nat) "RoleLoom$As" "this$0" "LRoleLoom;") ∈ lw_all := lw_g (lw_at lw_m4 161 rfl) rfl
theorem q957 : (Jvm.Cond.laysFinal "RoleLoom$As" "RoleLoom$As" "this$0" "LRoleLoom;") ∈ lw_all := lw_g (lw_at lw_m4 162 rfl) rfl
theorem q958 : (Jvm.Cond.soleField "RoleLoom$As" "this$0") ∈ lw_all := lw_g (lw_at lw_m4 163 rfl) rfl
theorem q959 : (Jvm.Cond.laysFinal "RoleLoom$As" "RoleLoom$Act" "a" "I") ∈ lw_all := lw_g (lw_at lw_m4 164 rfl) rfl
theorem q960 : (Jvm.Cond.laysFinal "RoleLoom$As" "RoleLoom$Act" "b" "I") ∈ lw_all := lw_g (lw_at lw_m4 165 rfl) rfl
theorem q961 : (Jvm.Cond.laysFinal "RoleLoom$As" "RoleLoom$Act" "this$0" "LRoleLoom;") ∈ lw_all := lw_g (lw_at lw_m4 166 rfl) rfl
theorem q962 : (Jvm.Cond.superclass "RoleLoom$As" "RoleLoom$Act") ∈ lw_all := lw_g (lw_at lw_m4 167 rfl) rfl
theorem q988 : (Jvm.Cond.castable "RoleLoom$As" "RoleLoom$Does") ∈ lw_tbl := lw_at lw_m4 193 rfl
theorem q989 : (Jvm.Cond.selects "RoleLoom$As" ({ cls := "RoleLoom$Does", name := "fits", desc := "(LRoleLoom$Part;)Z" } : Jvm.MethodName) ({ cls := "RoleLoom$As", name := "fits", desc := "(LRoleLoom$Part;)Z" } : Jvm.MethodName)) ∈ lw_all := lw_g (lw_at lw_m4 194 rfl) rfl
theorem q990 : (Jvm.Cond.unhidden "RoleLoom$As" "fits" "(LRoleLoom$Part;)Z") ∈ lw_tbl := lw_at lw_m4 195 rfl
theorem q991 : (Jvm.Cond.instanceMethod ({ cls := "RoleLoom$As", name := "fits", desc := "(LRoleLoom$Part;)Z" } : Jvm.MethodName)) ∈ lw_all := lw_g (lw_at lw_m4 196 rfl) rfl
theorem q992 : (Jvm.Cond.publicMethod ({ cls := "RoleLoom$As", name := "fits", desc := "(LRoleLoom$Part;)Z" } : Jvm.MethodName)) ∈ lw_tbl := lw_at lw_m4 197 rfl
theorem q993 : (Jvm.Cond.code ({ cls := "RoleLoom$As", name := "fits", desc := "(LRoleLoom$Part;)Z" } : Jvm.MethodName) prog_6_method_3_code (2 : Nat) (Option.some Jvm.ClassFile.FieldType.boolean)) ∈ lw_all := lw_g (lw_at lw_m4 198 rfl) rfl
theorem q994 : (Jvm.Cond.methodLinkNest "RoleLoom$As" (68 : Nat) ({ cls := "RoleLoom", name := "in", desc := "(III)Z" } : Jvm.MethodName) "RoleLoom") ∈ lw_tbl := lw_at lw_m4 199 rfl
theorem q1268 : (Jvm.Cond.fieldLinkNest "RoleLoom$As" (21 : Nat) "RoleLoom$State" "holders" "[LRoleLoom$Thing;" "RoleLoom") ∈ lw_tbl := lw_at lw_m5 233 rfl
theorem q1312 : (Jvm.Cond.selects "RoleLoom$As" ({ cls := "RoleLoom$Does", name := "act", desc := "(LRoleLoom$Frame;J)J" } : Jvm.MethodName) ({ cls := "RoleLoom$As", name := "act", desc := "(LRoleLoom$Frame;J)J" } : Jvm.MethodName)) ∈ lw_all := lw_g (lw_at lw_m6 37 rfl) rfl
theorem q1313 : (Jvm.Cond.instanceMethod ({ cls := "RoleLoom$As", name := "act", desc := "(LRoleLoom$Frame;J)J" } : Jvm.MethodName)) ∈ lw_all := lw_g (lw_at lw_m6 38 rfl) rfl
theorem q1314 : (Jvm.Cond.code ({ cls := "RoleLoom$As", name := "act", desc := "(LRoleLoom$Frame;J)J" } : Jvm.MethodName) prog_6_method_2_code (5 : Nat) (Option.some Jvm.ClassFile.FieldType.long)) ∈ lw_all := lw_g (lw_at lw_m6 39 rfl) rfl
theorem q1315 : (Jvm.Cond.methodLinkNest "RoleLoom$As" (31 : Nat) ({ cls := "RoleLoom", name := "thrown", desc := "(LRoleLoom$Frame;IJ)LRoleLoom$Thrown;" } : Jvm.MethodName) "RoleLoom") ∈ lw_tbl := lw_at lw_m6 40 rfl
theorem q1316 : (Jvm.Cond.methodLink "RoleLoom$As" (42 : Nat) ({ cls := "java/util/ArrayList", name := "size", desc := "()I" } : Jvm.MethodName)) ∈ lw_all := lw_g (lw_at lw_m6 41 rfl) rfl
theorem q1317 : (Jvm.Cond.methodLink "RoleLoom$As" (54 : Nat) ({ cls := "java/util/ArrayList", name := "get", desc := "(I)Ljava/lang/Object;" } : Jvm.MethodName)) ∈ lw_all := lw_g (lw_at lw_m6 42 rfl) rfl
theorem q1318 : (Jvm.Cond.classLink "RoleLoom$As" (58 : Nat) "RoleLoom$Role") ∈ lw_all := lw_g (lw_at lw_m6 43 rfl) rfl
theorem q1319 : (Jvm.Cond.methodLinkNest "RoleLoom$As" (60 : Nat) ({ cls := "RoleLoom", name := "isUnder", desc := "(LRoleLoom$Role;LRoleLoom$Role;)Z" } : Jvm.MethodName) "RoleLoom") ∈ lw_tbl := lw_at lw_m6 44 rfl
theorem q1413 : (Jvm.Cond.fieldLinkNest "RoleLoom$As" (48 : Nat) "RoleLoom$Thing" "role" "LRoleLoom$Role;" "RoleLoom") ∈ lw_tbl := lw_at lw_m6 138 rfl
theorem q2053 : (Jvm.Cond.castable "RoleLoom$As" "RoleLoom$Act") ∈ lw_tbl := lw_at lw_m9 58 rfl
theorem q2096 : (Jvm.Cond.castable "RoleLoom$As" "java/lang/Object") ∈ lw_tbl := lw_at lw_m9 101 rfl
theorem in_X26 : ∀ w ∈ wsX260, w ∈ lw_all := lw_in wsX260 [959, 960, 961, 957] (by decide +kernel) (by decide +kernel)
/-! RoleLoom$Role -/
set_option maxRecDepth 100000
def RX27 : String := "RoleLoom$Role"
def TX27 : u_T := fun k => match k with
  | 0 => ("RoleLoom$Role", "number", "I", true)
  | 1 => ("RoleLoom$Role", "line", "Ljava/util/ArrayList;", true)
  | 2 => ("RoleLoom$Role", "chains", "Ljava/util/ArrayList;", true)
  | 3 => ("RoleLoom$Role", "aliases", "[LRoleLoom$Body;", true)
  | _ => ("RoleLoom$Role", "started", "[I", true)
def tyX27 : Nat → FieldType := fun k => match k with
  | 0 => .int
  | 1 => .object "java/util/ArrayList"
  | 2 => .object "java/util/ArrayList"
  | 3 => .array (.object "RoleLoom$Body")
  | _ => .array .int
abbrev wsX270 : List Cond := u_ws RX27 TX27 5
theorem nmX27 : ∀ a, a < 5 → ∀ b, b < 5 → a ≠ b → (TX27 a).2.1 ≠ (TX27 b).2.1 := by decide +kernel
theorem tyX27_ok : ∀ k, k < 5 → parseFieldDescriptor (TX27 k).2.2.1 = some (tyX27 k) := by decide +kernel
abbrev cX27_init : ByteArray := prog_22_method_1_code
def yX27_init : MethodName := ⟨RX27, "<init>", "(I)V"⟩
def dkwX27_init_2 : List UInt8 := [177]
abbrev dktX27_init_2 : List UInt8 := dkwX27_init_2 ++ []
def dkwX27_init_1 : List UInt8 := [181, 0, 18, 42, 7, 189, 0, 21, 181, 0, 23, 42, 16, 24, 188, 10, 181, 0, 27, 42, 27, 181, 0, 31]
abbrev dktX27_init_1 : List UInt8 := dkwX27_init_1 ++ dktX27_init_2
def dkwX27_init_0 : List UInt8 := [42, 183, 0, 3, 42, 187, 0, 9, 89, 183, 0, 11, 181, 0, 12, 42, 187, 0, 9, 89, 183, 0, 11]
abbrev dktX27_init_0 : List UInt8 := dkwX27_init_0 ++ dktX27_init_1
theorem dksX27_init_0 : cX27_init.data.toList.drop 0 = dktX27_init_0 := by decide +kernel
theorem dksX27_init_1 : cX27_init.data.toList.drop 23 = dktX27_init_1 := dk_seg dksX27_init_0 23 rfl rfl
theorem dksX27_init_2 : cX27_init.data.toList.drop 47 = dktX27_init_2 := dk_seg dksX27_init_1 24 rfl rfl
theorem dX27_init_0 : decode cX27_init 0 = .ok (.aload_n 0, 1) := dk_42 (dk_at dksX27_init_0 0 rfl rfl)
theorem dX27_init_1 : decode cX27_init 1 = .ok (.invokespecial 3, 3) := dk_183 0 3 (dk_at dksX27_init_0 1 rfl rfl)
theorem dX27_init_4 : decode cX27_init 4 = .ok (.aload_n 0, 1) := dk_42 (dk_at dksX27_init_0 4 rfl rfl)
theorem dX27_init_5 : decode cX27_init 5 = .ok (.new 9, 3) := dk_187 0 9 (dk_at dksX27_init_0 5 rfl rfl)
theorem dX27_init_8 : decode cX27_init 8 = .ok (.dup, 1) := dk_89 (dk_at dksX27_init_0 8 rfl rfl)
theorem dX27_init_9 : decode cX27_init 9 = .ok (.invokespecial 11, 3) := dk_183 0 11 (dk_at dksX27_init_0 9 rfl rfl)
theorem dX27_init_12 : decode cX27_init 12 = .ok (.putfield 12, 3) := dk_181 0 12 (dk_at dksX27_init_0 12 rfl rfl)
theorem dX27_init_15 : decode cX27_init 15 = .ok (.aload_n 0, 1) := dk_42 (dk_at dksX27_init_0 15 rfl rfl)
theorem dX27_init_16 : decode cX27_init 16 = .ok (.new 9, 3) := dk_187 0 9 (dk_at dksX27_init_0 16 rfl rfl)
theorem dX27_init_19 : decode cX27_init 19 = .ok (.dup, 1) := dk_89 (dk_at dksX27_init_0 19 rfl rfl)
theorem dX27_init_20 : decode cX27_init 20 = .ok (.invokespecial 11, 3) := dk_183 0 11 (dk_at dksX27_init_0 20 rfl rfl)
theorem dX27_init_23 : decode cX27_init 23 = .ok (.putfield 18, 3) := dk_181 0 18 (dk_at dksX27_init_1 0 rfl rfl)
theorem dX27_init_26 : decode cX27_init 26 = .ok (.aload_n 0, 1) := dk_42 (dk_at dksX27_init_1 3 rfl rfl)
theorem dX27_init_27 : decode cX27_init 27 = .ok (.iconst 4, 1) := dk_7 (dk_at dksX27_init_1 4 rfl rfl)
theorem dX27_init_28 : decode cX27_init 28 = .ok (.anewarray 21, 3) := dk_189 0 21 (dk_at dksX27_init_1 5 rfl rfl)
theorem dX27_init_31 : decode cX27_init 31 = .ok (.putfield 23, 3) := dk_181 0 23 (dk_at dksX27_init_1 8 rfl rfl)
theorem dX27_init_34 : decode cX27_init 34 = .ok (.aload_n 0, 1) := dk_42 (dk_at dksX27_init_1 11 rfl rfl)
theorem dX27_init_35 : decode cX27_init 35 = .ok (.bipush 24, 2) := dk_16 24 (dk_at dksX27_init_1 12 rfl rfl)
theorem dX27_init_37 : decode cX27_init 37 = .ok (.newarray .int, 2) := dk_188_10 (dk_at dksX27_init_1 14 rfl rfl)
theorem dX27_init_39 : decode cX27_init 39 = .ok (.putfield 27, 3) := dk_181 0 27 (dk_at dksX27_init_1 16 rfl rfl)
theorem dX27_init_42 : decode cX27_init 42 = .ok (.aload_n 0, 1) := dk_42 (dk_at dksX27_init_1 19 rfl rfl)
theorem dX27_init_43 : decode cX27_init 43 = .ok (.iload_n 1, 1) := dk_27 (dk_at dksX27_init_1 20 rfl rfl)
theorem dX27_init_44 : decode cX27_init 44 = .ok (.putfield 31, 3) := dk_181 0 31 (dk_at dksX27_init_1 21 rfl rfl)
theorem dX27_init_47 : decode cX27_init 47 = .ok (.return_, 1) := dk_177 (dk_at dksX27_init_2 0 rfl rfl)
theorem q114 : (Jvm.Cond.initialized "RoleLoom$Role") ∈ lw_all := lw_g (lw_at lw_m1 39 rfl) rfl
theorem q519 : (Jvm.Cond.selects "RoleLoom$Role" ({ cls := "java/lang/Object", name := "getClass", desc := "()Ljava/lang/Class;" } : Jvm.MethodName) ({ cls := "java/lang/Object", name := "getClass", desc := "()Ljava/lang/Class;" } : Jvm.MethodName)) ∈ lw_all := lw_g (lw_at lw_m2 204 rfl) rfl
theorem q602 : (Jvm.Cond.selects "RoleLoom$Role" ({ cls := "java/lang/Object", name := "equals", desc := "(Ljava/lang/Object;)Z" } : Jvm.MethodName) ({ cls := "java/lang/Object", name := "equals", desc := "(Ljava/lang/Object;)Z" } : Jvm.MethodName)) ∈ lw_all := lw_g (lw_at lw_m3 47 rfl) rfl
theorem q1112 : (Jvm.Cond.instantiable "RoleLoom$Role" (5 : Nat)) ∈ lw_all := lw_g (lw_at lw_m5 77 rfl) rfl
theorem q1114 : (Jvm.Cond.instanceMethod ({ cls := "RoleLoom$Role", name := "<init>", desc := "(I)V" } : Jvm.MethodName)) ∈ lw_all := lw_g (lw_at lw_m5 79 rfl) rfl
theorem q1115 : (Jvm.Cond.code ({ cls := "RoleLoom$Role", name := "<init>", desc := "(I)V" } : Jvm.MethodName) prog_22_method_1_code (2 : Nat) (Option.none : Option Jvm.ClassFile.FieldType)) ∈ lw_all := lw_g (lw_at lw_m5 80 rfl) rfl
theorem q1116 : (Jvm.Cond.methodLink "RoleLoom$Role" (3 : Nat) ({ cls := "java/lang/Object", name := "<init>", desc := "()V" } : Jvm.MethodName)) ∈ lw_all := lw_g (lw_at lw_m5 81 rfl) rfl
theorem q1117 : (Jvm.Cond.classLink "RoleLoom$Role" (9 : Nat) "java/util/ArrayList") ∈ lw_all := lw_g (lw_at lw_m5 82 rfl) rfl
theorem q1118 : (Jvm.Cond.methodLink "RoleLoom$Role" (11 : Nat) ({ cls := "java/util/ArrayList", name := "<init>", desc := "()V" } : Jvm.MethodName)) ∈ lw_all := lw_g (lw_at lw_m5 83 rfl) rfl
theorem q1119 : (Jvm.Cond.classLink "RoleLoom$Role" (21 : Nat) "RoleLoom$Body") ∈ lw_all := lw_g (lw_at lw_m5 84 rfl) rfl
theorem q1120 : (Jvm.Cond.fieldLink "RoleLoom$Role" (31 : Nat) "RoleLoom$Role" "number" "I") ∈ lw_all := lw_g (lw_at lw_m5 85 rfl) rfl
theorem q1122 : (Jvm.Cond.fieldLink "RoleLoom$Role" (12 : Nat) "RoleLoom$Role" "line" "Ljava/util/ArrayList;") ∈ lw_all := lw_g (lw_at lw_m5 87 rfl) rfl
theorem q1124 : (Jvm.Cond.fieldLink "RoleLoom$Role" (18 : Nat) "RoleLoom$Role" "chains" "Ljava/util/ArrayList;") ∈ lw_all := lw_g (lw_at lw_m5 89 rfl) rfl
theorem q1128 : (Jvm.Cond.fieldLink "RoleLoom$Role" (23 : Nat) "RoleLoom$Role" "aliases" "[LRoleLoom$Body;") ∈ lw_all := lw_g (lw_at lw_m5 93 rfl) rfl
theorem q1131 : (Jvm.Cond.fieldLink "RoleLoom$Role" (27 : Nat) "RoleLoom$Role" "started" "[I") ∈ lw_all := lw_g (lw_at lw_m5 96 rfl) rfl
theorem q1133 : (Jvm.Cond.laysFinal "RoleLoom$Role" "RoleLoom$Role" "number" "I") ∈ lw_all := lw_g (lw_at lw_m5 98 rfl) rfl
theorem q1134 : (Jvm.Cond.soleField "RoleLoom$Role" "number") ∈ lw_all := lw_g (lw_at lw_m5 99 rfl) rfl
theorem q1135 : (Jvm.Cond.laysFinal "RoleLoom$Role" "RoleLoom$Role" "line" "Ljava/util/ArrayList;") ∈ lw_all := lw_g (lw_at lw_m5 100 rfl) rfl
theorem q1136 : (Jvm.Cond.soleField "RoleLoom$Role" "line") ∈ lw_all := lw_g (lw_at lw_m5 101 rfl) rfl
theorem q1137 : (Jvm.Cond.laysFinal "RoleLoom$Role" "RoleLoom$Role" "chains" "Ljava/util/ArrayList;") ∈ lw_all := lw_g (lw_at lw_m5 102 rfl) rfl
theorem q1138 : (Jvm.Cond.soleField "RoleLoom$Role" "chains") ∈ lw_all := lw_g (lw_at lw_m5 103 rfl) rfl
theorem q1139 : (Jvm.Cond.laysFinal "RoleLoom$Role" "RoleLoom$Role" "aliases" "[LRoleLoom$Body;") ∈ lw_all := lw_g (lw_at lw_m5 104 rfl) rfl
theorem q1140 : (Jvm.Cond.soleField "RoleLoom$Role" "aliases") ∈ lw_all := lw_g (lw_at lw_m5 105 rfl) rfl
theorem q1141 : (Jvm.Cond.laysFinal "RoleLoom$Role" "RoleLoom$Role" "started" "[I") ∈ lw_all := lw_g (lw_at lw_m5 106 rfl) rfl
theorem q1142 : (Jvm.Cond.soleField "RoleLoom$Role" "started") ∈ lw_all := lw_g (lw_at lw_m5 107 rfl) rfl
theorem q1143 : (Jvm.Cond.superclass "RoleLoom$Role" "java/lang/Object") ∈ lw_all := lw_g (lw_at lw_m5 108 rfl) rfl
theorem q2097 : (Jvm.Cond.castable "RoleLoom$Role" "java/lang/Object") ∈ lw_tbl := lw_at lw_m9 102 rfl
theorem in_X27 : ∀ w ∈ wsX270, w ∈ lw_all := lw_in wsX270 [1133, 1135, 1137, 1139, 1141] (by decide +kernel) (by decide +kernel)
/-! RoleLoom$State -/
set_option maxRecDepth 100000
def RX28 : String := "RoleLoom$State"
def TX28 : u_T := fun k => match k with
  | 0 => ("RoleLoom$State", "cells", "[J", true)
  | 1 => ("RoleLoom$State", "rows", "[J", true)
  | 2 => ("RoleLoom$State", "many", "[I", true)
  | _ => ("RoleLoom$State", "holders", "[LRoleLoom$Thing;", true)
def tyX28 : Nat → FieldType := fun k => match k with
  | 0 => .array .long
  | 1 => .array .long
  | 2 => .array .int
  | _ => .array (.object "RoleLoom$Thing")
abbrev wsX280 : List Cond := u_ws RX28 TX28 4
theorem nmX28 : ∀ a, a < 4 → ∀ b, b < 4 → a ≠ b → (TX28 a).2.1 ≠ (TX28 b).2.1 := by decide +kernel
theorem tyX28_ok : ∀ k, k < 4 → parseFieldDescriptor (TX28 k).2.2.1 = some (tyX28 k) := by decide +kernel
abbrev cX28_init : ByteArray := prog_25_method_1_code
def yX28_init : MethodName := ⟨RX28, "<init>", "(LRoleLoom$Part;)V"⟩
def dkwX28_init_2 : List UInt8 := [181, 0, 33, 177]
abbrev dktX28_init_2 : List UInt8 := dkwX28_init_2 ++ []
def dkwX28_init_1 : List UInt8 := [181, 0, 17, 42, 43, 180, 0, 21, 188, 11, 181, 0, 27, 42, 16, 12, 43, 180, 0, 30, 104, 188, 11]
abbrev dktX28_init_1 : List UInt8 := dkwX28_init_1 ++ dktX28_init_2
def dkwX28_init_0 : List UInt8 := [42, 183, 0, 3, 42, 5, 188, 10, 89, 3, 2, 79, 89, 4, 2, 79, 181, 0, 9, 42, 5, 189, 0, 15]
abbrev dktX28_init_0 : List UInt8 := dkwX28_init_0 ++ dktX28_init_1
theorem dksX28_init_0 : cX28_init.data.toList.drop 0 = dktX28_init_0 := by decide +kernel
theorem dksX28_init_1 : cX28_init.data.toList.drop 24 = dktX28_init_1 := dk_seg dksX28_init_0 24 rfl rfl
theorem dksX28_init_2 : cX28_init.data.toList.drop 47 = dktX28_init_2 := dk_seg dksX28_init_1 23 rfl rfl
theorem dX28_init_0 : decode cX28_init 0 = .ok (.aload_n 0, 1) := dk_42 (dk_at dksX28_init_0 0 rfl rfl)
theorem dX28_init_1 : decode cX28_init 1 = .ok (.invokespecial 3, 3) := dk_183 0 3 (dk_at dksX28_init_0 1 rfl rfl)
theorem dX28_init_4 : decode cX28_init 4 = .ok (.aload_n 0, 1) := dk_42 (dk_at dksX28_init_0 4 rfl rfl)
theorem dX28_init_5 : decode cX28_init 5 = .ok (.iconst 2, 1) := dk_5 (dk_at dksX28_init_0 5 rfl rfl)
theorem dX28_init_6 : decode cX28_init 6 = .ok (.newarray .int, 2) := dk_188_10 (dk_at dksX28_init_0 6 rfl rfl)
theorem dX28_init_8 : decode cX28_init 8 = .ok (.dup, 1) := dk_89 (dk_at dksX28_init_0 8 rfl rfl)
theorem dX28_init_9 : decode cX28_init 9 = .ok (.iconst 0, 1) := dk_3 (dk_at dksX28_init_0 9 rfl rfl)
theorem dX28_init_10 : decode cX28_init 10 = .ok (.iconst (-1), 1) := dk_2 (dk_at dksX28_init_0 10 rfl rfl)
theorem dX28_init_11 : decode cX28_init 11 = .ok (.iastore, 1) := dk_79 (dk_at dksX28_init_0 11 rfl rfl)
theorem dX28_init_12 : decode cX28_init 12 = .ok (.dup, 1) := dk_89 (dk_at dksX28_init_0 12 rfl rfl)
theorem dX28_init_13 : decode cX28_init 13 = .ok (.iconst 1, 1) := dk_4 (dk_at dksX28_init_0 13 rfl rfl)
theorem dX28_init_14 : decode cX28_init 14 = .ok (.iconst (-1), 1) := dk_2 (dk_at dksX28_init_0 14 rfl rfl)
theorem dX28_init_15 : decode cX28_init 15 = .ok (.iastore, 1) := dk_79 (dk_at dksX28_init_0 15 rfl rfl)
theorem dX28_init_16 : decode cX28_init 16 = .ok (.putfield 9, 3) := dk_181 0 9 (dk_at dksX28_init_0 16 rfl rfl)
theorem dX28_init_19 : decode cX28_init 19 = .ok (.aload_n 0, 1) := dk_42 (dk_at dksX28_init_0 19 rfl rfl)
theorem dX28_init_20 : decode cX28_init 20 = .ok (.iconst 2, 1) := dk_5 (dk_at dksX28_init_0 20 rfl rfl)
theorem dX28_init_21 : decode cX28_init 21 = .ok (.anewarray 15, 3) := dk_189 0 15 (dk_at dksX28_init_0 21 rfl rfl)
theorem dX28_init_24 : decode cX28_init 24 = .ok (.putfield 17, 3) := dk_181 0 17 (dk_at dksX28_init_1 0 rfl rfl)
theorem dX28_init_27 : decode cX28_init 27 = .ok (.aload_n 0, 1) := dk_42 (dk_at dksX28_init_1 3 rfl rfl)
theorem dX28_init_28 : decode cX28_init 28 = .ok (.aload_n 1, 1) := dk_43 (dk_at dksX28_init_1 4 rfl rfl)
theorem dX28_init_29 : decode cX28_init 29 = .ok (.getfield 21, 3) := dk_180 0 21 (dk_at dksX28_init_1 5 rfl rfl)
theorem dX28_init_32 : decode cX28_init 32 = .ok (.newarray .long, 2) := dk_188_11 (dk_at dksX28_init_1 8 rfl rfl)
theorem dX28_init_34 : decode cX28_init 34 = .ok (.putfield 27, 3) := dk_181 0 27 (dk_at dksX28_init_1 10 rfl rfl)
theorem dX28_init_37 : decode cX28_init 37 = .ok (.aload_n 0, 1) := dk_42 (dk_at dksX28_init_1 13 rfl rfl)
theorem dX28_init_38 : decode cX28_init 38 = .ok (.bipush 12, 2) := dk_16 12 (dk_at dksX28_init_1 14 rfl rfl)
theorem dX28_init_40 : decode cX28_init 40 = .ok (.aload_n 1, 1) := dk_43 (dk_at dksX28_init_1 16 rfl rfl)
theorem dX28_init_41 : decode cX28_init 41 = .ok (.getfield 30, 3) := dk_180 0 30 (dk_at dksX28_init_1 17 rfl rfl)
theorem dX28_init_44 : decode cX28_init 44 = .ok (.imul, 1) := dk_104 (dk_at dksX28_init_1 20 rfl rfl)
theorem dX28_init_45 : decode cX28_init 45 = .ok (.newarray .long, 2) := dk_188_11 (dk_at dksX28_init_1 21 rfl rfl)
theorem dX28_init_47 : decode cX28_init 47 = .ok (.putfield 33, 3) := dk_181 0 33 (dk_at dksX28_init_2 0 rfl rfl)
theorem dX28_init_50 : decode cX28_init 50 = .ok (.return_, 1) := dk_177 (dk_at dksX28_init_2 3 rfl rfl)
theorem q115 : (Jvm.Cond.initialized "RoleLoom$State") ∈ lw_all := lw_g (lw_at lw_m1 40 rfl) rfl
theorem q427 : (Jvm.Cond.fieldLinkNest "RoleLoom$State" (21 : Nat) "RoleLoom$Part" "cells" "I" "RoleLoom") ∈ lw_tbl := lw_at lw_m2 112 rfl
theorem q432 : (Jvm.Cond.fieldLinkNest "RoleLoom$State" (30 : Nat) "RoleLoom$Part" "rows" "I" "RoleLoom") ∈ lw_tbl := lw_at lw_m2 117 rfl
theorem q522 : (Jvm.Cond.selects "RoleLoom$State" ({ cls := "java/lang/Object", name := "getClass", desc := "()Ljava/lang/Class;" } : Jvm.MethodName) ({ cls := "java/lang/Object", name := "getClass", desc := "()Ljava/lang/Class;" } : Jvm.MethodName)) ∈ lw_all := lw_g (lw_at lw_m2 207 rfl) rfl
theorem q605 : (Jvm.Cond.selects "RoleLoom$State" ({ cls := "java/lang/Object", name := "equals", desc := "(Ljava/lang/Object;)Z" } : Jvm.MethodName) ({ cls := "java/lang/Object", name := "equals", desc := "(Ljava/lang/Object;)Z" } : Jvm.MethodName)) ∈ lw_all := lw_g (lw_at lw_m3 50 rfl) rfl
theorem q1246 : (Jvm.Cond.instantiable "RoleLoom$State" (4 : Nat)) ∈ lw_all := lw_g (lw_at lw_m5 211 rfl) rfl
theorem q1248 : (Jvm.Cond.instanceMethod ({ cls := "RoleLoom$State", name := "<init>", desc := "(LRoleLoom$Part;)V" } : Jvm.MethodName)) ∈ lw_all := lw_g (lw_at lw_m5 213 rfl) rfl
theorem q1249 : (Jvm.Cond.code ({ cls := "RoleLoom$State", name := "<init>", desc := "(LRoleLoom$Part;)V" } : Jvm.MethodName) prog_25_method_1_code (2 : Nat) (Option.none : Option Jvm.ClassFile.FieldType)) ∈ lw_all := lw_g (lw_at lw_m5 214 rfl) rfl
theorem q1250 : (Jvm.Cond.methodLink "RoleLoom$State" (3 : Nat) ({ cls := "java/lang/Object", name := "<init>", desc := "()V" } : Jvm.MethodName)) ∈ lw_all := lw_g (lw_at lw_m5 215 rfl) rfl
theorem q1251 : (Jvm.Cond.classLink "RoleLoom$State" (15 : Nat) "RoleLoom$Thing") ∈ lw_all := lw_g (lw_at lw_m5 216 rfl) rfl
theorem q1253 : (Jvm.Cond.fieldLink "RoleLoom$State" (27 : Nat) "RoleLoom$State" "cells" "[J") ∈ lw_all := lw_g (lw_at lw_m5 218 rfl) rfl
theorem q1258 : (Jvm.Cond.fieldLink "RoleLoom$State" (33 : Nat) "RoleLoom$State" "rows" "[J") ∈ lw_all := lw_g (lw_at lw_m5 223 rfl) rfl
theorem q1263 : (Jvm.Cond.fieldLink "RoleLoom$State" (9 : Nat) "RoleLoom$State" "many" "[I") ∈ lw_all := lw_g (lw_at lw_m5 228 rfl) rfl
theorem q1267 : (Jvm.Cond.fieldLink "RoleLoom$State" (17 : Nat) "RoleLoom$State" "holders" "[LRoleLoom$Thing;") ∈ lw_all := lw_g (lw_at lw_m5 232 rfl) rfl
theorem q1271 : (Jvm.Cond.laysFinal "RoleLoom$State" "RoleLoom$State" "cells" "[J") ∈ lw_all := lw_g (lw_at lw_m5 236 rfl) rfl
theorem q1272 : (Jvm.Cond.soleField "RoleLoom$State" "cells") ∈ lw_all := lw_g (lw_at lw_m5 237 rfl) rfl
theorem q1273 : (Jvm.Cond.laysFinal "RoleLoom$State" "RoleLoom$State" "rows" "[J") ∈ lw_all := lw_g (lw_at lw_m5 238 rfl) rfl
theorem q1274 : (Jvm.Cond.soleField "RoleLoom$State" "rows") ∈ lw_all := lw_g (lw_at lw_m5 239 rfl) rfl
theorem q1275 : (Jvm.Cond.laysFinal "RoleLoom$State" "RoleLoom$State" "many" "[I") ∈ lw_all := lw_g (lw_at lw_m6 0 rfl) rfl
theorem q1276 : (Jvm.Cond.soleField "RoleLoom$State" "many") ∈ lw_all := lw_g (lw_at lw_m6 1 rfl) rfl
theorem q1277 : (Jvm.Cond.laysFinal "RoleLoom$State" "RoleLoom$State" "holders" "[LRoleLoom$Thing;") ∈ lw_all := lw_g (lw_at lw_m6 2 rfl) rfl
theorem q1278 : (Jvm.Cond.soleField "RoleLoom$State" "holders") ∈ lw_all := lw_g (lw_at lw_m6 3 rfl) rfl
theorem q1279 : (Jvm.Cond.superclass "RoleLoom$State" "java/lang/Object") ∈ lw_all := lw_g (lw_at lw_m6 4 rfl) rfl
theorem q2098 : (Jvm.Cond.castable "RoleLoom$State" "java/lang/Object") ∈ lw_tbl := lw_at lw_m9 103 rfl
theorem in_X28 : ∀ w ∈ wsX280, w ∈ lw_all := lw_in wsX280 [1271, 1273, 1275, 1277] (by decide +kernel) (by decide +kernel)
/-! RoleLoom$Thing -/
set_option maxRecDepth 100000
def RX29 : String := "RoleLoom$Thing"
def TX29 : u_T := fun k => match k with
  | 0 => ("RoleLoom$Thing", "number", "I", true)
  | 1 => ("RoleLoom$Thing", "role", "LRoleLoom$Role;", true)
  | _ => ("RoleLoom$Thing", "states", "Ljava/util/ArrayList;", true)
def tyX29 : Nat → FieldType := fun k => match k with
  | 0 => .int
  | 1 => .object "RoleLoom$Role"
  | _ => .object "java/util/ArrayList"
abbrev wsX290 : List Cond := u_ws RX29 TX29 3
theorem nmX29 : ∀ a, a < 3 → ∀ b, b < 3 → a ≠ b → (TX29 a).2.1 ≠ (TX29 b).2.1 := by decide +kernel
theorem tyX29_ok : ∀ k, k < 3 → parseFieldDescriptor (TX29 k).2.2.1 = some (tyX29 k) := by decide +kernel
abbrev cX29_init : ByteArray := prog_27_method_1_code
def yX29_init : MethodName := ⟨RX29, "<init>", "(ILRoleLoom$Role;)V"⟩
def dkwX29_init_1 : List UInt8 := [181, 0, 20, 177]
abbrev dktX29_init_1 : List UInt8 := dkwX29_init_1 ++ []
def dkwX29_init_0 : List UInt8 := [42, 183, 0, 1, 42, 187, 0, 7, 89, 183, 0, 9, 181, 0, 10, 42, 27, 181, 0, 16, 42, 44]
abbrev dktX29_init_0 : List UInt8 := dkwX29_init_0 ++ dktX29_init_1
theorem dksX29_init_0 : cX29_init.data.toList.drop 0 = dktX29_init_0 := by decide +kernel
theorem dksX29_init_1 : cX29_init.data.toList.drop 22 = dktX29_init_1 := dk_seg dksX29_init_0 22 rfl rfl
theorem dX29_init_0 : decode cX29_init 0 = .ok (.aload_n 0, 1) := dk_42 (dk_at dksX29_init_0 0 rfl rfl)
theorem dX29_init_1 : decode cX29_init 1 = .ok (.invokespecial 1, 3) := dk_183 0 1 (dk_at dksX29_init_0 1 rfl rfl)
theorem dX29_init_4 : decode cX29_init 4 = .ok (.aload_n 0, 1) := dk_42 (dk_at dksX29_init_0 4 rfl rfl)
theorem dX29_init_5 : decode cX29_init 5 = .ok (.new 7, 3) := dk_187 0 7 (dk_at dksX29_init_0 5 rfl rfl)
theorem dX29_init_8 : decode cX29_init 8 = .ok (.dup, 1) := dk_89 (dk_at dksX29_init_0 8 rfl rfl)
theorem dX29_init_9 : decode cX29_init 9 = .ok (.invokespecial 9, 3) := dk_183 0 9 (dk_at dksX29_init_0 9 rfl rfl)
theorem dX29_init_12 : decode cX29_init 12 = .ok (.putfield 10, 3) := dk_181 0 10 (dk_at dksX29_init_0 12 rfl rfl)
theorem dX29_init_15 : decode cX29_init 15 = .ok (.aload_n 0, 1) := dk_42 (dk_at dksX29_init_0 15 rfl rfl)
theorem dX29_init_16 : decode cX29_init 16 = .ok (.iload_n 1, 1) := dk_27 (dk_at dksX29_init_0 16 rfl rfl)
theorem dX29_init_17 : decode cX29_init 17 = .ok (.putfield 16, 3) := dk_181 0 16 (dk_at dksX29_init_0 17 rfl rfl)
theorem dX29_init_20 : decode cX29_init 20 = .ok (.aload_n 0, 1) := dk_42 (dk_at dksX29_init_0 20 rfl rfl)
theorem dX29_init_21 : decode cX29_init 21 = .ok (.aload_n 2, 1) := dk_44 (dk_at dksX29_init_0 21 rfl rfl)
theorem dX29_init_22 : decode cX29_init 22 = .ok (.putfield 20, 3) := dk_181 0 20 (dk_at dksX29_init_1 0 rfl rfl)
theorem dX29_init_25 : decode cX29_init 25 = .ok (.return_, 1) := dk_177 (dk_at dksX29_init_1 3 rfl rfl)
theorem q116 : (Jvm.Cond.initialized "RoleLoom$Thing") ∈ lw_all := lw_g (lw_at lw_m1 41 rfl) rfl
theorem q524 : (Jvm.Cond.selects "RoleLoom$Thing" ({ cls := "java/lang/Object", name := "getClass", desc := "()Ljava/lang/Class;" } : Jvm.MethodName) ({ cls := "java/lang/Object", name := "getClass", desc := "()Ljava/lang/Class;" } : Jvm.MethodName)) ∈ lw_all := lw_g (lw_at lw_m2 209 rfl) rfl
theorem q607 : (Jvm.Cond.selects "RoleLoom$Thing" ({ cls := "java/lang/Object", name := "equals", desc := "(Ljava/lang/Object;)Z" } : Jvm.MethodName) ({ cls := "java/lang/Object", name := "equals", desc := "(Ljava/lang/Object;)Z" } : Jvm.MethodName)) ∈ lw_all := lw_g (lw_at lw_m3 52 rfl) rfl
theorem q1402 : (Jvm.Cond.instantiable "RoleLoom$Thing" (3 : Nat)) ∈ lw_all := lw_g (lw_at lw_m6 127 rfl) rfl
theorem q1404 : (Jvm.Cond.instanceMethod ({ cls := "RoleLoom$Thing", name := "<init>", desc := "(ILRoleLoom$Role;)V" } : Jvm.MethodName)) ∈ lw_all := lw_g (lw_at lw_m6 129 rfl) rfl
theorem q1405 : (Jvm.Cond.code ({ cls := "RoleLoom$Thing", name := "<init>", desc := "(ILRoleLoom$Role;)V" } : Jvm.MethodName) prog_27_method_1_code (3 : Nat) (Option.none : Option Jvm.ClassFile.FieldType)) ∈ lw_all := lw_g (lw_at lw_m6 130 rfl) rfl
theorem q1406 : (Jvm.Cond.methodLink "RoleLoom$Thing" (1 : Nat) ({ cls := "java/lang/Object", name := "<init>", desc := "()V" } : Jvm.MethodName)) ∈ lw_all := lw_g (lw_at lw_m6 131 rfl) rfl
theorem q1407 : (Jvm.Cond.classLink "RoleLoom$Thing" (7 : Nat) "java/util/ArrayList") ∈ lw_all := lw_g (lw_at lw_m6 132 rfl) rfl
theorem q1408 : (Jvm.Cond.methodLink "RoleLoom$Thing" (9 : Nat) ({ cls := "java/util/ArrayList", name := "<init>", desc := "()V" } : Jvm.MethodName)) ∈ lw_all := lw_g (lw_at lw_m6 133 rfl) rfl
theorem q1409 : (Jvm.Cond.fieldLink "RoleLoom$Thing" (16 : Nat) "RoleLoom$Thing" "number" "I") ∈ lw_all := lw_g (lw_at lw_m6 134 rfl) rfl
theorem q1411 : (Jvm.Cond.fieldLink "RoleLoom$Thing" (20 : Nat) "RoleLoom$Thing" "role" "LRoleLoom$Role;") ∈ lw_all := lw_g (lw_at lw_m6 136 rfl) rfl
theorem q1416 : (Jvm.Cond.fieldLink "RoleLoom$Thing" (10 : Nat) "RoleLoom$Thing" "states" "Ljava/util/ArrayList;") ∈ lw_all := lw_g (lw_at lw_m6 141 rfl) rfl
theorem q1418 : (Jvm.Cond.laysFinal "RoleLoom$Thing" "RoleLoom$Thing" "number" "I") ∈ lw_all := lw_g (lw_at lw_m6 143 rfl) rfl
theorem q1419 : (Jvm.Cond.soleField "RoleLoom$Thing" "number") ∈ lw_all := lw_g (lw_at lw_m6 144 rfl) rfl
theorem q1420 : (Jvm.Cond.laysFinal "RoleLoom$Thing" "RoleLoom$Thing" "role" "LRoleLoom$Role;") ∈ lw_all := lw_g (lw_at lw_m6 145 rfl) rfl
theorem q1421 : (Jvm.Cond.soleField "RoleLoom$Thing" "role") ∈ lw_all := lw_g (lw_at lw_m6 146 rfl) rfl
theorem q1422 : (Jvm.Cond.laysFinal "RoleLoom$Thing" "RoleLoom$Thing" "states" "Ljava/util/ArrayList;") ∈ lw_all := lw_g (lw_at lw_m6 147 rfl) rfl
theorem q1423 : (Jvm.Cond.soleField "RoleLoom$Thing" "states") ∈ lw_all := lw_g (lw_at lw_m6 148 rfl) rfl
theorem q1424 : (Jvm.Cond.superclass "RoleLoom$Thing" "java/lang/Object") ∈ lw_all := lw_g (lw_at lw_m6 149 rfl) rfl
theorem q2071 : (Jvm.Cond.castable "RoleLoom$Thing" "java/lang/Object") ∈ lw_tbl := lw_at lw_m9 76 rfl
theorem in_X29 : ∀ w ∈ wsX290, w ∈ lw_all := lw_in wsX290 [1418, 1420, 1422] (by decide +kernel) (by decide +kernel)
/-! RoleLoom$Does -/
set_option maxRecDepth 100000
def RX30 : String := "RoleLoom$Does"
abbrev cX30_fits : ByteArray := prog_11_method_2_code
def yX30_fits : MethodName := ⟨RX30, "fits", "(LRoleLoom$Part;)Z"⟩
theorem dX30_fits_0 : decode cX30_fits 0 = .ok (.iconst 1, 1) := by decide +kernel
theorem dX30_fits_1 : decode cX30_fits 1 = .ok (.ireturn, 1) := by decide +kernel
theorem q965 : (Jvm.Cond.interfaceMethod "RoleLoom$Does" "RoleLoom$Does" "fits" "(LRoleLoom$Part;)Z") ∈ lw_tbl := lw_at lw_m4 170 rfl
theorem q966 : (Jvm.Cond.declares ({ cls := "RoleLoom$Does", name := "fits", desc := "(LRoleLoom$Part;)Z" } : Jvm.MethodName)) ∈ lw_tbl := lw_at lw_m4 171 rfl
theorem q985 : (Jvm.Cond.instanceMethod ({ cls := "RoleLoom$Does", name := "fits", desc := "(LRoleLoom$Part;)Z" } : Jvm.MethodName)) ∈ lw_all := lw_g (lw_at lw_m4 190 rfl) rfl
theorem q986 : (Jvm.Cond.publicMethod ({ cls := "RoleLoom$Does", name := "fits", desc := "(LRoleLoom$Part;)Z" } : Jvm.MethodName)) ∈ lw_tbl := lw_at lw_m4 191 rfl
theorem q987 : (Jvm.Cond.code ({ cls := "RoleLoom$Does", name := "fits", desc := "(LRoleLoom$Part;)Z" } : Jvm.MethodName) prog_11_method_2_code (2 : Nat) (Option.some Jvm.ClassFile.FieldType.boolean)) ∈ lw_all := lw_g (lw_at lw_m4 192 rfl) rfl
theorem q1290 : (Jvm.Cond.declares ({ cls := "RoleLoom$Does", name := "act", desc := "(LRoleLoom$Frame;J)J" } : Jvm.MethodName)) ∈ lw_tbl := lw_at lw_m6 15 rfl
theorem q75 : (Jvm.Cond.initialized "RoleLoomLaw") ∈ lw_all := lw_g (lw_at lw_m1 0 rfl) rfl
set_option maxRecDepth 100000
theorem q117 : (Jvm.Cond.classLink "RoleLoomLaw" (7 : Nat) "RoleLoom") ∈ lw_all := lw_g (lw_at lw_m1 42 rfl) rfl
theorem q119 : (Jvm.Cond.methodLink "RoleLoomLaw" (9 : Nat) ({ cls := "RoleLoom", name := "<init>", desc := "()V" } : Jvm.MethodName)) ∈ lw_all := lw_g (lw_at lw_m1 44 rfl) rfl
theorem q405 : (Jvm.Cond.methodLink "RoleLoomLaw" (13 : Nat) ({ cls := "RoleLoom", name := "part", desc := "(III)I" } : Jvm.MethodName)) ∈ lw_all := lw_g (lw_at lw_m2 90 rfl) rfl
theorem q545 : (Jvm.Cond.methodLink "RoleLoomLaw" (18 : Nat) ({ cls := "RoleLoom", name := "extend", desc := "(II)I" } : Jvm.MethodName)) ∈ lw_all := lw_g (lw_at lw_m2 230 rfl) rfl
theorem q617 : (Jvm.Cond.methodLink "RoleLoomLaw" (23 : Nat) ({ cls := "RoleLoom", name := "want", desc := "(II)I" } : Jvm.MethodName)) ∈ lw_all := lw_g (lw_at lw_m3 62 rfl) rfl
theorem q621 : (Jvm.Cond.methodLink "RoleLoomLaw" (27 : Nat) ({ cls := "RoleLoom", name := "body", desc := "(IIII)I" } : Jvm.MethodName)) ∈ lw_all := lw_g (lw_at lw_m3 66 rfl) rfl
theorem q654 : (Jvm.Cond.methodLink "RoleLoomLaw" (32 : Nat) ({ cls := "RoleLoom", name := "act", desc := "(III)I" } : Jvm.MethodName)) ∈ lw_all := lw_g (lw_at lw_m3 99 rfl) rfl
theorem q1075 : (Jvm.Cond.methodLink "RoleLoomLaw" (36 : Nat) ({ cls := "RoleLoom", name := "wish", desc := "(II)I" } : Jvm.MethodName)) ∈ lw_all := lw_g (lw_at lw_m5 40 rfl) rfl
theorem q1079 : (Jvm.Cond.methodLink "RoleLoomLaw" (40 : Nat) ({ cls := "RoleLoom", name := "name", desc := "(I)I" } : Jvm.MethodName)) ∈ lw_all := lw_g (lw_at lw_m5 44 rfl) rfl
theorem q1083 : (Jvm.Cond.methodLink "RoleLoomLaw" (45 : Nat) ({ cls := "RoleLoom", name := "exclude", desc := "(II)I" } : Jvm.MethodName)) ∈ lw_all := lw_g (lw_at lw_m5 48 rfl) rfl
theorem q1087 : (Jvm.Cond.methodLink "RoleLoomLaw" (49 : Nat) ({ cls := "RoleLoom", name := "alias", desc := "(III)I" } : Jvm.MethodName)) ∈ lw_all := lw_g (lw_at lw_m5 52 rfl) rfl
theorem q1091 : (Jvm.Cond.methodLink "RoleLoomLaw" (53 : Nat) ({ cls := "RoleLoom", name := "weave", desc := "()I" } : Jvm.MethodName)) ∈ lw_all := lw_g (lw_at lw_m5 56 rfl) rfl
theorem q1191 : (Jvm.Cond.methodLink "RoleLoomLaw" (58 : Nat) ({ cls := "RoleLoom", name := "ring", desc := "(I)I" } : Jvm.MethodName)) ∈ lw_all := lw_g (lw_at lw_m5 156 rfl) rfl
theorem q1195 : (Jvm.Cond.methodLink "RoleLoomLaw" (62 : Nat) ({ cls := "RoleLoom", name := "lacks", desc := "(I)I" } : Jvm.MethodName)) ∈ lw_all := lw_g (lw_at lw_m5 160 rfl) rfl
theorem q1199 : (Jvm.Cond.methodLink "RoleLoomLaw" (66 : Nat) ({ cls := "RoleLoom", name := "line", desc := "(II)I" } : Jvm.MethodName)) ∈ lw_all := lw_g (lw_at lw_m5 164 rfl) rfl
theorem q1207 : (Jvm.Cond.methodLink "RoleLoomLaw" (70 : Nat) ({ cls := "RoleLoom", name := "chain", desc := "(III)I" } : Jvm.MethodName)) ∈ lw_all := lw_g (lw_at lw_m5 172 rfl) rfl
theorem q1211 : (Jvm.Cond.methodLink "RoleLoomLaw" (74 : Nat) ({ cls := "RoleLoom", name := "under", desc := "(II)I" } : Jvm.MethodName)) ∈ lw_all := lw_g (lw_at lw_m5 176 rfl) rfl
theorem q1221 : (Jvm.Cond.methodLink "RoleLoomLaw" (78 : Nat) ({ cls := "RoleLoom", name := "step", desc := "(II)I" } : Jvm.MethodName)) ∈ lw_all := lw_g (lw_at lw_m5 186 rfl) rfl
theorem q1229 : (Jvm.Cond.methodLink "RoleLoomLaw" (82 : Nat) ({ cls := "RoleLoom", name := "started", desc := "(II)I" } : Jvm.MethodName)) ∈ lw_all := lw_g (lw_at lw_m5 194 rfl) rfl
theorem q1233 : (Jvm.Cond.methodLink "RoleLoomLaw" (86 : Nat) ({ cls := "RoleLoom", name := "object", desc := "(I)I" } : Jvm.MethodName)) ∈ lw_all := lw_g (lw_at lw_m5 198 rfl) rfl
theorem q1425 : (Jvm.Cond.methodLink "RoleLoomLaw" (92 : Nat) ({ cls := "RoleLoom", name := "call", desc := "(IIJ)I" } : Jvm.MethodName)) ∈ lw_all := lw_g (lw_at lw_m6 150 rfl) rfl
theorem q1434 : (Jvm.Cond.methodLink "RoleLoomLaw" (97 : Nat) ({ cls := "RoleLoom", name := "answer", desc := "()J" } : Jvm.MethodName)) ∈ lw_all := lw_g (lw_at lw_m6 159 rfl) rfl
theorem q1438 : (Jvm.Cond.methodLink "RoleLoomLaw" (102 : Nat) ({ cls := "RoleLoom", name := "threw", desc := "(I)I" } : Jvm.MethodName)) ∈ lw_all := lw_g (lw_at lw_m6 163 rfl) rfl
theorem q1442 : (Jvm.Cond.methodLink "RoleLoomLaw" (106 : Nat) ({ cls := "RoleLoom", name := "with", desc := "()J" } : Jvm.MethodName)) ∈ lw_all := lw_g (lw_at lw_m6 167 rfl) rfl
theorem q1446 : (Jvm.Cond.methodLink "RoleLoomLaw" (110 : Nat) ({ cls := "RoleLoom", name := "ran", desc := "(II)I" } : Jvm.MethodName)) ∈ lw_all := lw_g (lw_at lw_m6 171 rfl) rfl
theorem q1450 : (Jvm.Cond.methodLink "RoleLoomLaw" (114 : Nat) ({ cls := "RoleLoom", name := "marks", desc := "()I" } : Jvm.MethodName)) ∈ lw_all := lw_g (lw_at lw_m6 175 rfl) rfl
theorem q1454 : (Jvm.Cond.methodLink "RoleLoomLaw" (118 : Nat) ({ cls := "RoleLoom", name := "mark", desc := "(I)I" } : Jvm.MethodName)) ∈ lw_all := lw_g (lw_at lw_m6 179 rfl) rfl
theorem q1463 : (Jvm.Cond.methodLink "RoleLoomLaw" (122 : Nat) ({ cls := "RoleLoom", name := "cell", desc := "(III)I" } : Jvm.MethodName)) ∈ lw_all := lw_g (lw_at lw_m6 188 rfl) rfl
theorem q1471 : (Jvm.Cond.methodLink "RoleLoomLaw" (126 : Nat) ({ cls := "RoleLoom", name := "row", desc := "(IIII)I" } : Jvm.MethodName)) ∈ lw_all := lw_g (lw_at lw_m6 196 rfl) rfl
theorem q1475 : (Jvm.Cond.methodLink "RoleLoomLaw" (130 : Nat) ({ cls := "RoleLoom", name := "hold", desc := "(IIII)I" } : Jvm.MethodName)) ∈ lw_all := lw_g (lw_at lw_m6 200 rfl) rfl
theorem q1479 : (Jvm.Cond.methodLink "RoleLoomLaw" (134 : Nat) ({ cls := "RoleLoom", name := "shared", desc := "(I)I" } : Jvm.MethodName)) ∈ lw_all := lw_g (lw_at lw_m6 204 rfl) rfl
theorem q1483 : (Jvm.Cond.methodLink "RoleLoomLaw" (138 : Nat) ({ cls := "RoleLoom", name := "told", desc := "()J" } : Jvm.MethodName)) ∈ lw_all := lw_g (lw_at lw_m6 208 rfl) rfl
theorem q1487 : (Jvm.Cond.methodLink "RoleLoomLaw" (142 : Nat) ({ cls := "RoleLoom", name := "count", desc := "(I)I" } : Jvm.MethodName)) ∈ lw_all := lw_g (lw_at lw_m6 212 rfl) rfl
theorem q1491 : (Jvm.Cond.methodLink "RoleLoomLaw" (146 : Nat) ({ cls := "RoleLoom", name := "digest", desc := "()J" } : Jvm.MethodName)) ∈ lw_all := lw_g (lw_at lw_m6 216 rfl) rfl
theorem q1500 : (Jvm.Cond.classLink "RoleLoomLaw" (10 : Nat) "RoleLoomModel") ∈ lw_all := lw_g (lw_at lw_m6 225 rfl) rfl
theorem q1502 : (Jvm.Cond.methodLink "RoleLoomLaw" (12 : Nat) ({ cls := "RoleLoomModel", name := "<init>", desc := "()V" } : Jvm.MethodName)) ∈ lw_all := lw_g (lw_at lw_m6 227 rfl) rfl
theorem q1727 : (Jvm.Cond.methodLink "RoleLoomLaw" (17 : Nat) ({ cls := "RoleLoomModel", name := "part", desc := "(III)I" } : Jvm.MethodName)) ∈ lw_all := lw_g (lw_at lw_m7 212 rfl) rfl
theorem q1734 : (Jvm.Cond.methodLink "RoleLoomLaw" (22 : Nat) ({ cls := "RoleLoomModel", name := "extend", desc := "(II)I" } : Jvm.MethodName)) ∈ lw_all := lw_g (lw_at lw_m7 219 rfl) rfl
theorem q1746 : (Jvm.Cond.methodLink "RoleLoomLaw" (26 : Nat) ({ cls := "RoleLoomModel", name := "want", desc := "(II)I" } : Jvm.MethodName)) ∈ lw_all := lw_g (lw_at lw_m7 231 rfl) rfl
theorem q1750 : (Jvm.Cond.methodLink "RoleLoomLaw" (31 : Nat) ({ cls := "RoleLoomModel", name := "body", desc := "(IIII)I" } : Jvm.MethodName)) ∈ lw_all := lw_g (lw_at lw_m7 235 rfl) rfl
theorem q1760 : (Jvm.Cond.methodLink "RoleLoomLaw" (35 : Nat) ({ cls := "RoleLoomModel", name := "act", desc := "(III)I" } : Jvm.MethodName)) ∈ lw_all := lw_g (lw_at lw_m8 5 rfl) rfl
theorem q1768 : (Jvm.Cond.methodLink "RoleLoomLaw" (39 : Nat) ({ cls := "RoleLoomModel", name := "wish", desc := "(II)I" } : Jvm.MethodName)) ∈ lw_all := lw_g (lw_at lw_m8 13 rfl) rfl
theorem q1772 : (Jvm.Cond.methodLink "RoleLoomLaw" (44 : Nat) ({ cls := "RoleLoomModel", name := "name", desc := "(I)I" } : Jvm.MethodName)) ∈ lw_all := lw_g (lw_at lw_m8 17 rfl) rfl
theorem q1776 : (Jvm.Cond.methodLink "RoleLoomLaw" (48 : Nat) ({ cls := "RoleLoomModel", name := "exclude", desc := "(II)I" } : Jvm.MethodName)) ∈ lw_all := lw_g (lw_at lw_m8 21 rfl) rfl
theorem q1780 : (Jvm.Cond.methodLink "RoleLoomLaw" (52 : Nat) ({ cls := "RoleLoomModel", name := "alias", desc := "(III)I" } : Jvm.MethodName)) ∈ lw_all := lw_g (lw_at lw_m8 25 rfl) rfl
theorem q1784 : (Jvm.Cond.methodLink "RoleLoomLaw" (57 : Nat) ({ cls := "RoleLoomModel", name := "weave", desc := "()I" } : Jvm.MethodName)) ∈ lw_all := lw_g (lw_at lw_m8 29 rfl) rfl
theorem q1839 : (Jvm.Cond.methodLink "RoleLoomLaw" (61 : Nat) ({ cls := "RoleLoomModel", name := "ring", desc := "(I)I" } : Jvm.MethodName)) ∈ lw_all := lw_g (lw_at lw_m8 84 rfl) rfl
theorem q1843 : (Jvm.Cond.methodLink "RoleLoomLaw" (65 : Nat) ({ cls := "RoleLoomModel", name := "lacks", desc := "(I)I" } : Jvm.MethodName)) ∈ lw_all := lw_g (lw_at lw_m8 88 rfl) rfl
theorem q1847 : (Jvm.Cond.methodLink "RoleLoomLaw" (69 : Nat) ({ cls := "RoleLoomModel", name := "line", desc := "(II)I" } : Jvm.MethodName)) ∈ lw_all := lw_g (lw_at lw_m8 92 rfl) rfl
theorem q1855 : (Jvm.Cond.methodLink "RoleLoomLaw" (73 : Nat) ({ cls := "RoleLoomModel", name := "chain", desc := "(III)I" } : Jvm.MethodName)) ∈ lw_all := lw_g (lw_at lw_m8 100 rfl) rfl
theorem q1859 : (Jvm.Cond.methodLink "RoleLoomLaw" (77 : Nat) ({ cls := "RoleLoomModel", name := "under", desc := "(II)I" } : Jvm.MethodName)) ∈ lw_all := lw_g (lw_at lw_m8 104 rfl) rfl
theorem q1871 : (Jvm.Cond.methodLink "RoleLoomLaw" (81 : Nat) ({ cls := "RoleLoomModel", name := "step", desc := "(II)I" } : Jvm.MethodName)) ∈ lw_all := lw_g (lw_at lw_m8 116 rfl) rfl
theorem q1879 : (Jvm.Cond.methodLink "RoleLoomLaw" (85 : Nat) ({ cls := "RoleLoomModel", name := "started", desc := "(II)I" } : Jvm.MethodName)) ∈ lw_all := lw_g (lw_at lw_m8 124 rfl) rfl
theorem q1887 : (Jvm.Cond.methodLink "RoleLoomLaw" (89 : Nat) ({ cls := "RoleLoomModel", name := "object", desc := "(I)I" } : Jvm.MethodName)) ∈ lw_all := lw_g (lw_at lw_m8 132 rfl) rfl
theorem q1968 : (Jvm.Cond.methodLink "RoleLoomLaw" (96 : Nat) ({ cls := "RoleLoomModel", name := "call", desc := "(IIJ)I" } : Jvm.MethodName)) ∈ lw_all := lw_g (lw_at lw_m8 213 rfl) rfl
theorem q1976 : (Jvm.Cond.methodLink "RoleLoomLaw" (101 : Nat) ({ cls := "RoleLoomModel", name := "answer", desc := "()J" } : Jvm.MethodName)) ∈ lw_all := lw_g (lw_at lw_m8 221 rfl) rfl
theorem q1980 : (Jvm.Cond.methodLink "RoleLoomLaw" (105 : Nat) ({ cls := "RoleLoomModel", name := "threw", desc := "(I)I" } : Jvm.MethodName)) ∈ lw_all := lw_g (lw_at lw_m8 225 rfl) rfl
theorem q1984 : (Jvm.Cond.methodLink "RoleLoomLaw" (109 : Nat) ({ cls := "RoleLoomModel", name := "with", desc := "()J" } : Jvm.MethodName)) ∈ lw_all := lw_g (lw_at lw_m8 229 rfl) rfl
theorem q1988 : (Jvm.Cond.methodLink "RoleLoomLaw" (113 : Nat) ({ cls := "RoleLoomModel", name := "ran", desc := "(II)I" } : Jvm.MethodName)) ∈ lw_all := lw_g (lw_at lw_m8 233 rfl) rfl
theorem q1992 : (Jvm.Cond.methodLink "RoleLoomLaw" (117 : Nat) ({ cls := "RoleLoomModel", name := "marks", desc := "()I" } : Jvm.MethodName)) ∈ lw_all := lw_g (lw_at lw_m8 237 rfl) rfl
theorem q1996 : (Jvm.Cond.methodLink "RoleLoomLaw" (121 : Nat) ({ cls := "RoleLoomModel", name := "mark", desc := "(I)I" } : Jvm.MethodName)) ∈ lw_all := lw_g (lw_at lw_m9 1 rfl) rfl
theorem q2004 : (Jvm.Cond.methodLink "RoleLoomLaw" (125 : Nat) ({ cls := "RoleLoomModel", name := "cell", desc := "(III)I" } : Jvm.MethodName)) ∈ lw_all := lw_g (lw_at lw_m9 9 rfl) rfl
theorem q2012 : (Jvm.Cond.methodLink "RoleLoomLaw" (129 : Nat) ({ cls := "RoleLoomModel", name := "row", desc := "(IIII)I" } : Jvm.MethodName)) ∈ lw_all := lw_g (lw_at lw_m9 17 rfl) rfl
theorem q2016 : (Jvm.Cond.methodLink "RoleLoomLaw" (133 : Nat) ({ cls := "RoleLoomModel", name := "hold", desc := "(IIII)I" } : Jvm.MethodName)) ∈ lw_all := lw_g (lw_at lw_m9 21 rfl) rfl
theorem q2020 : (Jvm.Cond.methodLink "RoleLoomLaw" (137 : Nat) ({ cls := "RoleLoomModel", name := "shared", desc := "(I)I" } : Jvm.MethodName)) ∈ lw_all := lw_g (lw_at lw_m9 25 rfl) rfl
theorem q2024 : (Jvm.Cond.methodLink "RoleLoomLaw" (141 : Nat) ({ cls := "RoleLoomModel", name := "told", desc := "()J" } : Jvm.MethodName)) ∈ lw_all := lw_g (lw_at lw_m9 29 rfl) rfl
theorem q2028 : (Jvm.Cond.methodLink "RoleLoomLaw" (145 : Nat) ({ cls := "RoleLoomModel", name := "count", desc := "(I)I" } : Jvm.MethodName)) ∈ lw_all := lw_g (lw_at lw_m9 33 rfl) rfl
theorem q2032 : (Jvm.Cond.methodLink "RoleLoomLaw" (149 : Nat) ({ cls := "RoleLoomModel", name := "digest", desc := "()J" } : Jvm.MethodName)) ∈ lw_all := lw_g (lw_at lw_m9 37 rfl) rfl
theorem q2042 : (Jvm.Cond.constantLong "RoleLoomLaw" (90 : Nat) (4294967295 : Int64)) ∈ lw_all := lw_g (lw_at lw_m9 47 rfl) rfl
theorem q2105 : (Jvm.Cond.castable "[I" "java/lang/Object") ∈ lw_tbl := lw_at lw_m9 110 rfl
set_option maxRecDepth 100000
theorem q2106 : (Jvm.Cond.castable "[J" "java/lang/Object") ∈ lw_tbl := lw_at lw_m9 111 rfl
set_option maxRecDepth 100000
theorem q2104 : (Jvm.Cond.castable "[LRoleLoom$Body;" "java/lang/Object") ∈ lw_tbl := lw_at lw_m9 109 rfl
set_option maxRecDepth 100000
theorem q2103 : (Jvm.Cond.castable "[LRoleLoom$Frame;" "java/lang/Object") ∈ lw_tbl := lw_at lw_m9 108 rfl
set_option maxRecDepth 100000
theorem q2109 : (Jvm.Cond.castable "[LRoleLoom$Thing;" "java/lang/Object") ∈ lw_tbl := lw_at lw_m9 114 rfl
set_option maxRecDepth 100000
theorem q2100 : (Jvm.Cond.sameMethod "[Ljava/lang/Object;" "java/lang/Object" "getClass" "()Ljava/lang/Class;") ∈ lw_all := lw_g (lw_at lw_m9 105 rfl) rfl
set_option maxRecDepth 100000
theorem q2101 : (Jvm.Cond.selects "[Ljava/lang/Object;" ({ cls := "java/lang/Object", name := "getClass", desc := "()Ljava/lang/Class;" } : Jvm.MethodName) ({ cls := "java/lang/Object", name := "getClass", desc := "()Ljava/lang/Class;" } : Jvm.MethodName)) ∈ lw_all := lw_g (lw_at lw_m9 106 rfl) rfl
theorem q2108 : (Jvm.Cond.castable "[Ljava/lang/Object;" "java/lang/Object") ∈ lw_tbl := lw_at lw_m9 113 rfl
theorem q2107 : (Jvm.Cond.castable "[Z" "java/lang/Object") ∈ lw_tbl := lw_at lw_m9 112 rfl
set_option maxRecDepth 100000
theorem q90 : (Jvm.Cond.initialized "java/lang/System") ∈ lw_all := lw_g (lw_at lw_m1 15 rfl) rfl
set_option maxRecDepth 100000
theorem q541 : (Jvm.Cond.static ({ cls := "java/lang/System", name := "arraycopy", desc := "(Ljava/lang/Object;ILjava/lang/Object;II)V" } : Jvm.MethodName)) ∈ lw_all := lw_g (lw_at lw_m2 226 rfl) rfl
theorem q542 : (Jvm.Cond.native ({ cls := "java/lang/System", name := "arraycopy", desc := "(Ljava/lang/Object;ILjava/lang/Object;II)V" } : Jvm.MethodName)) ∈ lw_all := lw_g (lw_at lw_m2 227 rfl) rfl
theorem q239 : (Jvm.Cond.arrayOver (Jvm.ClassFile.FieldType.object "RoleLoom$Frame")) ∈ lw_tbl := lw_at lw_m1 164 rfl
set_option maxRecDepth 100000
theorem q241 : (Jvm.Cond.arrayOver (Jvm.ClassFile.FieldType.object "RoleLoom$Body")) ∈ lw_tbl := lw_at lw_m1 166 rfl
theorem q289 : (Jvm.Cond.arrayClass Jvm.ClassFile.FieldType.int) ∈ lw_all := lw_g (lw_at lw_m1 214 rfl) rfl
theorem q290 : (Jvm.Cond.arrayClass Jvm.ClassFile.FieldType.long) ∈ lw_all := lw_g (lw_at lw_m1 215 rfl) rfl
theorem q291 : (Jvm.Cond.arrayClass Jvm.ClassFile.FieldType.boolean) ∈ lw_all := lw_g (lw_at lw_m1 216 rfl) rfl
theorem q535 : (Jvm.Cond.arrayOver (Jvm.ClassFile.FieldType.object "java/lang/Object")) ∈ lw_tbl := lw_at lw_m2 220 rfl
theorem q1252 : (Jvm.Cond.arrayOver (Jvm.ClassFile.FieldType.object "RoleLoom$Thing")) ∈ lw_tbl := lw_at lw_m5 217 rfl

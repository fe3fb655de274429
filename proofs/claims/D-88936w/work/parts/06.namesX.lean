/-! ValleyGuides$Sheet -/
set_option maxRecDepth 100000
def RX1 : String := "ValleyGuides$Sheet"
def TX1 : u_T := fun k => match k with
  | _ => ("ValleyGuides$Sheet", "row", "Ljava/lang/Object;", false)
def tyX1 : Nat → FieldType := fun k => match k with
  | _ => .object "java/lang/Object"
abbrev wsX10 : List Cond := u_ws RX1 TX1 1
theorem nmX1 : ∀ a, a < 1 → ∀ b, b < 1 → a ≠ b → (TX1 a).2.1 ≠ (TX1 b).2.1 := by decide +kernel
theorem tyX1_ok : ∀ k, k < 1 → parseFieldDescriptor (TX1 k).2.2.1 = some (tyX1 k) := by decide +kernel
abbrev cX1_init : ByteArray := prog_19_method_1_code
def yX1_init : MethodName := ⟨RX1, "<init>", "()V"⟩
theorem dX1_init_0 : decode cX1_init 0 = .ok (.aload_n 0, 1) := by decide +kernel
theorem dX1_init_1 : decode cX1_init 1 = .ok (.invokespecial 1, 3) := by decide +kernel
theorem dX1_init_4 : decode cX1_init 4 = .ok (.return_, 1) := by decide +kernel
theorem q104 : (Jvm.Cond.initialized "ValleyGuides$Sheet") ∈ lw_all := lw_g (lw_at lw_m1 2 rfl) rfl
theorem q391 : (Jvm.Cond.selects "ValleyGuides$Sheet" ({ cls := "java/lang/Object", name := "getClass", desc := "()Ljava/lang/Class;" } : Jvm.MethodName) ({ cls := "java/lang/Object", name := "getClass", desc := "()Ljava/lang/Class;" } : Jvm.MethodName)) ∈ lw_all := lw_g (lw_at lw_m2 49 rfl) rfl
theorem q497 : (Jvm.Cond.instantiable "ValleyGuides$Sheet" (1 : Nat)) ∈ lw_all := lw_g (lw_at lw_m2 155 rfl) rfl
theorem q499 : (Jvm.Cond.instanceMethod ({ cls := "ValleyGuides$Sheet", name := "<init>", desc := "()V" } : Jvm.MethodName)) ∈ lw_all := lw_g (lw_at lw_m2 157 rfl) rfl
theorem q500 : (Jvm.Cond.code ({ cls := "ValleyGuides$Sheet", name := "<init>", desc := "()V" } : Jvm.MethodName) prog_19_method_1_code (1 : Nat) (Option.none : Option Jvm.ClassFile.FieldType)) ∈ lw_all := lw_g (lw_at lw_m2 158 rfl) rfl
theorem q501 : (Jvm.Cond.methodLink "ValleyGuides$Sheet" (1 : Nat) ({ cls := "java/lang/Object", name := "<init>", desc := "()V" } : Jvm.MethodName)) ∈ lw_all := lw_g (lw_at lw_m2 159 rfl) rfl
theorem q503 : (Jvm.Cond.lays "ValleyGuides$Sheet" "ValleyGuides$Sheet" "row" "Ljava/lang/Object;") ∈ lw_all := lw_g (lw_at lw_m2 161 rfl) rfl
theorem q504 : (Jvm.Cond.soleField "ValleyGuides$Sheet" "row") ∈ lw_all := lw_g (lw_at lw_m2 162 rfl) rfl
theorem q505 : (Jvm.Cond.superclass "ValleyGuides$Sheet" "java/lang/Object") ∈ lw_all := lw_g (lw_at lw_m2 163 rfl) rfl
theorem q1409 : (Jvm.Cond.selects "ValleyGuides$Sheet" ({ cls := "java/lang/Object", name := "equals", desc := "(Ljava/lang/Object;)Z" } : Jvm.MethodName) ({ cls := "java/lang/Object", name := "equals", desc := "(Ljava/lang/Object;)Z" } : Jvm.MethodName)) ∈ lw_all := lw_g (lw_at lw_m6 107 rfl) rfl
theorem q2422 : (Jvm.Cond.castable "ValleyGuides$Sheet" "java/lang/Object") ∈ lw_tbl := lw_at lw_m10 160 rfl
theorem in_X1 : ∀ w ∈ wsX10, w ∈ lw_all := lw_in wsX10 [503] (by decide +kernel) (by decide +kernel)
/-! ValleyGuides$Image -/
set_option maxRecDepth 100000
def RX2 : String := "ValleyGuides$Image"
def TX2 : u_T := fun k => match k with
  | 0 => ("ValleyGuides$Image", "order", "[I", true)
  | 1 => ("ValleyGuides$Image", "isOut", "[Z", true)
  | 2 => ("ValleyGuides$Image", "had", "[I", true)
  | 3 => ("ValleyGuides$Image", "given", "[I", true)
  | 4 => ("ValleyGuides$Image", "many", "I", false)
  | 5 => ("ValleyGuides$Image", "day", "I", false)
  | _ => ("ValleyGuides$Image", "purse", "I", false)
def tyX2 : Nat → FieldType := fun k => match k with
  | 0 => .array .int
  | 1 => .array .boolean
  | 2 => .array .int
  | 3 => .array .int
  | 4 => .int
  | 5 => .int
  | _ => .int
abbrev wsX20 : List Cond := u_ws RX2 TX2 7
theorem nmX2 : ∀ a, a < 7 → ∀ b, b < 7 → a ≠ b → (TX2 a).2.1 ≠ (TX2 b).2.1 := by decide +kernel
theorem tyX2_ok : ∀ k, k < 7 → parseFieldDescriptor (TX2 k).2.2.1 = some (tyX2 k) := by decide +kernel
abbrev cX2_init : ByteArray := prog_7_method_1_code
def yX2_init : MethodName := ⟨RX2, "<init>", "()V"⟩
def dkwX2_init_1 : List UInt8 := [188, 10, 181, 0, 19, 42, 16, 8, 188, 10, 181, 0, 22, 177]
abbrev dktX2_init_1 : List UInt8 := dkwX2_init_1 ++ []
def dkwX2_init_0 : List UInt8 := [42, 183, 0, 3, 42, 16, 8, 188, 10, 181, 0, 9, 42, 16, 8, 188, 4, 181, 0, 15, 42, 16, 8]
abbrev dktX2_init_0 : List UInt8 := dkwX2_init_0 ++ dktX2_init_1
theorem dksX2_init_0 : cX2_init.data.toList.drop 0 = dktX2_init_0 := by decide +kernel
theorem dksX2_init_1 : cX2_init.data.toList.drop 23 = dktX2_init_1 := dk_seg dksX2_init_0 23 rfl rfl
theorem dX2_init_0 : decode cX2_init 0 = .ok (.aload_n 0, 1) := dk_42 (dk_at dksX2_init_0 0 rfl rfl)
theorem dX2_init_1 : decode cX2_init 1 = .ok (.invokespecial 3, 3) := dk_183 0 3 (dk_at dksX2_init_0 1 rfl rfl)
theorem dX2_init_4 : decode cX2_init 4 = .ok (.aload_n 0, 1) := dk_42 (dk_at dksX2_init_0 4 rfl rfl)
theorem dX2_init_5 : decode cX2_init 5 = .ok (.bipush 8, 2) := dk_16 8 (dk_at dksX2_init_0 5 rfl rfl)
theorem dX2_init_7 : decode cX2_init 7 = .ok (.newarray .int, 2) := dk_188_10 (dk_at dksX2_init_0 7 rfl rfl)
theorem dX2_init_9 : decode cX2_init 9 = .ok (.putfield 9, 3) := dk_181 0 9 (dk_at dksX2_init_0 9 rfl rfl)
theorem dX2_init_12 : decode cX2_init 12 = .ok (.aload_n 0, 1) := dk_42 (dk_at dksX2_init_0 12 rfl rfl)
theorem dX2_init_13 : decode cX2_init 13 = .ok (.bipush 8, 2) := dk_16 8 (dk_at dksX2_init_0 13 rfl rfl)
theorem dX2_init_15 : decode cX2_init 15 = .ok (.newarray .boolean, 2) := dk_188_4 (dk_at dksX2_init_0 15 rfl rfl)
theorem dX2_init_17 : decode cX2_init 17 = .ok (.putfield 15, 3) := dk_181 0 15 (dk_at dksX2_init_0 17 rfl rfl)
theorem dX2_init_20 : decode cX2_init 20 = .ok (.aload_n 0, 1) := dk_42 (dk_at dksX2_init_0 20 rfl rfl)
theorem dX2_init_21 : decode cX2_init 21 = .ok (.bipush 8, 2) := dk_16 8 (dk_at dksX2_init_0 21 rfl rfl)
theorem dX2_init_23 : decode cX2_init 23 = .ok (.newarray .int, 2) := dk_188_10 (dk_at dksX2_init_1 0 rfl rfl)
theorem dX2_init_25 : decode cX2_init 25 = .ok (.putfield 19, 3) := dk_181 0 19 (dk_at dksX2_init_1 2 rfl rfl)
theorem dX2_init_28 : decode cX2_init 28 = .ok (.aload_n 0, 1) := dk_42 (dk_at dksX2_init_1 5 rfl rfl)
theorem dX2_init_29 : decode cX2_init 29 = .ok (.bipush 8, 2) := dk_16 8 (dk_at dksX2_init_1 6 rfl rfl)
theorem dX2_init_31 : decode cX2_init 31 = .ok (.newarray .int, 2) := dk_188_10 (dk_at dksX2_init_1 8 rfl rfl)
theorem dX2_init_33 : decode cX2_init 33 = .ok (.putfield 22, 3) := dk_181 0 22 (dk_at dksX2_init_1 10 rfl rfl)
theorem dX2_init_36 : decode cX2_init 36 = .ok (.return_, 1) := dk_177 (dk_at dksX2_init_1 13 rfl rfl)
theorem q108 : (Jvm.Cond.initialized "ValleyGuides$Image") ∈ lw_all := lw_g (lw_at lw_m1 6 rfl) rfl
theorem q380 : (Jvm.Cond.selects "ValleyGuides$Image" ({ cls := "java/lang/Object", name := "getClass", desc := "()Ljava/lang/Class;" } : Jvm.MethodName) ({ cls := "java/lang/Object", name := "getClass", desc := "()Ljava/lang/Class;" } : Jvm.MethodName)) ∈ lw_all := lw_g (lw_at lw_m2 38 rfl) rfl
theorem q518 : (Jvm.Cond.instantiable "ValleyGuides$Image" (7 : Nat)) ∈ lw_all := lw_g (lw_at lw_m2 176 rfl) rfl
theorem q520 : (Jvm.Cond.instanceMethod ({ cls := "ValleyGuides$Image", name := "<init>", desc := "()V" } : Jvm.MethodName)) ∈ lw_all := lw_g (lw_at lw_m2 178 rfl) rfl
theorem q521 : (Jvm.Cond.code ({ cls := "ValleyGuides$Image", name := "<init>", desc := "()V" } : Jvm.MethodName) prog_7_method_1_code (1 : Nat) (Option.none : Option Jvm.ClassFile.FieldType)) ∈ lw_all := lw_g (lw_at lw_m2 179 rfl) rfl
theorem q522 : (Jvm.Cond.methodLink "ValleyGuides$Image" (3 : Nat) ({ cls := "java/lang/Object", name := "<init>", desc := "()V" } : Jvm.MethodName)) ∈ lw_all := lw_g (lw_at lw_m2 180 rfl) rfl
theorem q523 : (Jvm.Cond.fieldLink "ValleyGuides$Image" (9 : Nat) "ValleyGuides$Image" "order" "[I") ∈ lw_all := lw_g (lw_at lw_m2 181 rfl) rfl
theorem q525 : (Jvm.Cond.fieldLink "ValleyGuides$Image" (15 : Nat) "ValleyGuides$Image" "isOut" "[Z") ∈ lw_all := lw_g (lw_at lw_m2 183 rfl) rfl
theorem q527 : (Jvm.Cond.fieldLink "ValleyGuides$Image" (19 : Nat) "ValleyGuides$Image" "had" "[I") ∈ lw_all := lw_g (lw_at lw_m2 185 rfl) rfl
theorem q529 : (Jvm.Cond.fieldLink "ValleyGuides$Image" (22 : Nat) "ValleyGuides$Image" "given" "[I") ∈ lw_all := lw_g (lw_at lw_m2 187 rfl) rfl
theorem q534 : (Jvm.Cond.laysFinal "ValleyGuides$Image" "ValleyGuides$Image" "order" "[I") ∈ lw_all := lw_g (lw_at lw_m2 192 rfl) rfl
theorem q535 : (Jvm.Cond.soleField "ValleyGuides$Image" "order") ∈ lw_all := lw_g (lw_at lw_m2 193 rfl) rfl
theorem q536 : (Jvm.Cond.laysFinal "ValleyGuides$Image" "ValleyGuides$Image" "isOut" "[Z") ∈ lw_all := lw_g (lw_at lw_m2 194 rfl) rfl
theorem q537 : (Jvm.Cond.soleField "ValleyGuides$Image" "isOut") ∈ lw_all := lw_g (lw_at lw_m2 195 rfl) rfl
theorem q538 : (Jvm.Cond.laysFinal "ValleyGuides$Image" "ValleyGuides$Image" "had" "[I") ∈ lw_all := lw_g (lw_at lw_m2 196 rfl) rfl
theorem q539 : (Jvm.Cond.soleField "ValleyGuides$Image" "had") ∈ lw_all := lw_g (lw_at lw_m2 197 rfl) rfl
theorem q540 : (Jvm.Cond.laysFinal "ValleyGuides$Image" "ValleyGuides$Image" "given" "[I") ∈ lw_all := lw_g (lw_at lw_m2 198 rfl) rfl
theorem q541 : (Jvm.Cond.soleField "ValleyGuides$Image" "given") ∈ lw_all := lw_g (lw_at lw_m2 199 rfl) rfl
theorem q542 : (Jvm.Cond.lays "ValleyGuides$Image" "ValleyGuides$Image" "many" "I") ∈ lw_all := lw_g (lw_at lw_m2 200 rfl) rfl
theorem q543 : (Jvm.Cond.soleField "ValleyGuides$Image" "many") ∈ lw_all := lw_g (lw_at lw_m2 201 rfl) rfl
theorem q544 : (Jvm.Cond.lays "ValleyGuides$Image" "ValleyGuides$Image" "day" "I") ∈ lw_all := lw_g (lw_at lw_m2 202 rfl) rfl
theorem q545 : (Jvm.Cond.soleField "ValleyGuides$Image" "day") ∈ lw_all := lw_g (lw_at lw_m2 203 rfl) rfl
theorem q546 : (Jvm.Cond.lays "ValleyGuides$Image" "ValleyGuides$Image" "purse" "I") ∈ lw_all := lw_g (lw_at lw_m2 204 rfl) rfl
theorem q547 : (Jvm.Cond.soleField "ValleyGuides$Image" "purse") ∈ lw_all := lw_g (lw_at lw_m2 205 rfl) rfl
theorem q548 : (Jvm.Cond.superclass "ValleyGuides$Image" "java/lang/Object") ∈ lw_all := lw_g (lw_at lw_m2 206 rfl) rfl
theorem q1398 : (Jvm.Cond.selects "ValleyGuides$Image" ({ cls := "java/lang/Object", name := "equals", desc := "(Ljava/lang/Object;)Z" } : Jvm.MethodName) ({ cls := "java/lang/Object", name := "equals", desc := "(Ljava/lang/Object;)Z" } : Jvm.MethodName)) ∈ lw_all := lw_g (lw_at lw_m6 96 rfl) rfl
theorem q2428 : (Jvm.Cond.castable "ValleyGuides$Image" "java/lang/Object") ∈ lw_tbl := lw_at lw_m10 166 rfl
theorem in_X2 : ∀ w ∈ wsX20, w ∈ lw_all := lw_in wsX20 [534, 536, 538, 540, 542, 544, 546] (by decide +kernel) (by decide +kernel)
/-! ValleyGuides$Step -/
set_option maxRecDepth 100000
def RX4 : String := "ValleyGuides$Step"
abbrev cX4_init : ByteArray := prog_21_method_1_code
def yX4_init : MethodName := ⟨RX4, "<init>", "(IIIIZ)V"⟩
def dkwX4_init_1 : List UInt8 := [181, 0, 19, 42, 21, 5, 181, 0, 22, 177]
abbrev dktX4_init_1 : List UInt8 := dkwX4_init_1 ++ []
def dkwX4_init_0 : List UInt8 := [42, 183, 0, 1, 42, 27, 181, 0, 7, 42, 28, 181, 0, 13, 42, 29, 181, 0, 16, 42, 21, 4]
abbrev dktX4_init_0 : List UInt8 := dkwX4_init_0 ++ dktX4_init_1
theorem dksX4_init_0 : cX4_init.data.toList.drop 0 = dktX4_init_0 := by decide +kernel
theorem dksX4_init_1 : cX4_init.data.toList.drop 22 = dktX4_init_1 := dk_seg dksX4_init_0 22 rfl rfl
theorem dX4_init_0 : decode cX4_init 0 = .ok (.aload_n 0, 1) := dk_42 (dk_at dksX4_init_0 0 rfl rfl)
theorem dX4_init_1 : decode cX4_init 1 = .ok (.invokespecial 1, 3) := dk_183 0 1 (dk_at dksX4_init_0 1 rfl rfl)
theorem dX4_init_4 : decode cX4_init 4 = .ok (.aload_n 0, 1) := dk_42 (dk_at dksX4_init_0 4 rfl rfl)
theorem dX4_init_5 : decode cX4_init 5 = .ok (.iload_n 1, 1) := dk_27 (dk_at dksX4_init_0 5 rfl rfl)
theorem dX4_init_6 : decode cX4_init 6 = .ok (.putfield 7, 3) := dk_181 0 7 (dk_at dksX4_init_0 6 rfl rfl)
theorem dX4_init_9 : decode cX4_init 9 = .ok (.aload_n 0, 1) := dk_42 (dk_at dksX4_init_0 9 rfl rfl)
theorem dX4_init_10 : decode cX4_init 10 = .ok (.iload_n 2, 1) := dk_28 (dk_at dksX4_init_0 10 rfl rfl)
theorem dX4_init_11 : decode cX4_init 11 = .ok (.putfield 13, 3) := dk_181 0 13 (dk_at dksX4_init_0 11 rfl rfl)
theorem dX4_init_14 : decode cX4_init 14 = .ok (.aload_n 0, 1) := dk_42 (dk_at dksX4_init_0 14 rfl rfl)
theorem dX4_init_15 : decode cX4_init 15 = .ok (.iload_n 3, 1) := dk_29 (dk_at dksX4_init_0 15 rfl rfl)
theorem dX4_init_16 : decode cX4_init 16 = .ok (.putfield 16, 3) := dk_181 0 16 (dk_at dksX4_init_0 16 rfl rfl)
theorem dX4_init_19 : decode cX4_init 19 = .ok (.aload_n 0, 1) := dk_42 (dk_at dksX4_init_0 19 rfl rfl)
theorem dX4_init_20 : decode cX4_init 20 = .ok (.iload 4, 2) := dk_21 4 (dk_at dksX4_init_0 20 rfl rfl)
theorem dX4_init_22 : decode cX4_init 22 = .ok (.putfield 19, 3) := dk_181 0 19 (dk_at dksX4_init_1 0 rfl rfl)
theorem dX4_init_25 : decode cX4_init 25 = .ok (.aload_n 0, 1) := dk_42 (dk_at dksX4_init_1 3 rfl rfl)
theorem dX4_init_26 : decode cX4_init 26 = .ok (.iload 5, 2) := dk_21 5 (dk_at dksX4_init_1 4 rfl rfl)
theorem dX4_init_28 : decode cX4_init 28 = .ok (.putfield 22, 3) := dk_181 0 22 (dk_at dksX4_init_1 6 rfl rfl)
theorem dX4_init_31 : decode cX4_init 31 = .ok (.return_, 1) := dk_177 (dk_at dksX4_init_1 9 rfl rfl)
theorem q110 : (Jvm.Cond.initialized "ValleyGuides$Step") ∈ lw_all := lw_g (lw_at lw_m1 8 rfl) rfl
theorem q179 : (Jvm.Cond.instanceMethod ({ cls := "ValleyGuides$Step", name := "<init>", desc := "(IIIIZ)V" } : Jvm.MethodName)) ∈ lw_all := lw_g (lw_at lw_m1 77 rfl) rfl
theorem q180 : (Jvm.Cond.code ({ cls := "ValleyGuides$Step", name := "<init>", desc := "(IIIIZ)V" } : Jvm.MethodName) prog_21_method_1_code (6 : Nat) (Option.none : Option Jvm.ClassFile.FieldType)) ∈ lw_all := lw_g (lw_at lw_m1 78 rfl) rfl
theorem q181 : (Jvm.Cond.methodLink "ValleyGuides$Step" (1 : Nat) ({ cls := "java/lang/Object", name := "<init>", desc := "()V" } : Jvm.MethodName)) ∈ lw_all := lw_g (lw_at lw_m1 79 rfl) rfl
theorem q184 : (Jvm.Cond.fieldLink "ValleyGuides$Step" (7 : Nat) "ValleyGuides$Step" "from" "I") ∈ lw_all := lw_g (lw_at lw_m1 82 rfl) rfl
theorem q187 : (Jvm.Cond.fieldLink "ValleyGuides$Step" (13 : Nat) "ValleyGuides$Step" "to" "I") ∈ lw_all := lw_g (lw_at lw_m1 85 rfl) rfl
theorem q190 : (Jvm.Cond.fieldLink "ValleyGuides$Step" (16 : Nat) "ValleyGuides$Step" "length" "I") ∈ lw_all := lw_g (lw_at lw_m1 88 rfl) rfl
theorem q195 : (Jvm.Cond.fieldLink "ValleyGuides$Step" (19 : Nat) "ValleyGuides$Step" "hard" "I") ∈ lw_all := lw_g (lw_at lw_m1 93 rfl) rfl
theorem q204 : (Jvm.Cond.fieldLink "ValleyGuides$Step" (22 : Nat) "ValleyGuides$Step" "isNarrow" "Z") ∈ lw_all := lw_g (lw_at lw_m1 102 rfl) rfl
theorem q207 : (Jvm.Cond.soleField "ValleyGuides$Step" "from") ∈ lw_all := lw_g (lw_at lw_m1 105 rfl) rfl
theorem q209 : (Jvm.Cond.soleField "ValleyGuides$Step" "to") ∈ lw_all := lw_g (lw_at lw_m1 107 rfl) rfl
theorem q211 : (Jvm.Cond.soleField "ValleyGuides$Step" "length") ∈ lw_all := lw_g (lw_at lw_m1 109 rfl) rfl
theorem q213 : (Jvm.Cond.soleField "ValleyGuides$Step" "hard") ∈ lw_all := lw_g (lw_at lw_m1 111 rfl) rfl
theorem q215 : (Jvm.Cond.soleField "ValleyGuides$Step" "isNarrow") ∈ lw_all := lw_g (lw_at lw_m1 113 rfl) rfl
theorem q274 : (Jvm.Cond.declares ({ cls := "ValleyGuides$Step", name := "sort", desc := "()I" } : Jvm.MethodName)) ∈ lw_tbl := lw_at lw_m1 172 rfl
theorem q275 : (Jvm.Cond.sameMethod "ValleyGuides$Step" "ValleyGuides$Step" "sort" "()I") ∈ lw_all := lw_g (lw_at lw_m1 173 rfl) rfl
theorem q906 : (Jvm.Cond.declares ({ cls := "ValleyGuides$Step", name := "takes", desc := "(II[I)I" } : Jvm.MethodName)) ∈ lw_tbl := lw_at lw_m4 84 rfl
theorem q907 : (Jvm.Cond.sameMethod "ValleyGuides$Step" "ValleyGuides$Step" "takes" "(II[I)I") ∈ lw_all := lw_g (lw_at lw_m4 85 rfl) rfl
theorem q2420 : (Jvm.Cond.castable "ValleyGuides$Step" "java/lang/Object") ∈ lw_tbl := lw_at lw_m10 158 rfl
/-! ValleyGuides$Path -/
set_option maxRecDepth 100000
def RX5 : String := "ValleyGuides$Path"
def TX5 : u_T := fun k => match k with
  | 0 => ("ValleyGuides$Step", "from", "I", true)
  | 1 => ("ValleyGuides$Step", "to", "I", true)
  | 2 => ("ValleyGuides$Step", "length", "I", true)
  | 3 => ("ValleyGuides$Step", "hard", "I", true)
  | _ => ("ValleyGuides$Step", "isNarrow", "Z", true)
def tyX5 : Nat → FieldType := fun k => match k with
  | 0 => .int
  | 1 => .int
  | 2 => .int
  | 3 => .int
  | _ => .boolean
abbrev wsX50 : List Cond := u_ws RX5 TX5 5
theorem nmX5 : ∀ a, a < 5 → ∀ b, b < 5 → a ≠ b → (TX5 a).2.1 ≠ (TX5 b).2.1 := by decide +kernel
theorem tyX5_ok : ∀ k, k < 5 → parseFieldDescriptor (TX5 k).2.2.1 = some (tyX5 k) := by decide +kernel
abbrev cX5_init : ByteArray := prog_12_method_1_code
def yX5_init : MethodName := ⟨RX5, "<init>", "(IIIIZ)V"⟩
def dkwX5_init_0 : List UInt8 := [42, 27, 28, 29, 21, 4, 21, 5, 183, 0, 1, 177]
abbrev dktX5_init_0 : List UInt8 := dkwX5_init_0 ++ []
theorem dksX5_init_0 : cX5_init.data.toList.drop 0 = dktX5_init_0 := by decide +kernel
theorem dX5_init_0 : decode cX5_init 0 = .ok (.aload_n 0, 1) := dk_42 (dk_at dksX5_init_0 0 rfl rfl)
theorem dX5_init_1 : decode cX5_init 1 = .ok (.iload_n 1, 1) := dk_27 (dk_at dksX5_init_0 1 rfl rfl)
theorem dX5_init_2 : decode cX5_init 2 = .ok (.iload_n 2, 1) := dk_28 (dk_at dksX5_init_0 2 rfl rfl)
theorem dX5_init_3 : decode cX5_init 3 = .ok (.iload_n 3, 1) := dk_29 (dk_at dksX5_init_0 3 rfl rfl)
theorem dX5_init_4 : decode cX5_init 4 = .ok (.iload 4, 2) := dk_21 4 (dk_at dksX5_init_0 4 rfl rfl)
theorem dX5_init_6 : decode cX5_init 6 = .ok (.iload 5, 2) := dk_21 5 (dk_at dksX5_init_0 6 rfl rfl)
theorem dX5_init_8 : decode cX5_init 8 = .ok (.invokespecial 1, 3) := dk_183 0 1 (dk_at dksX5_init_0 8 rfl rfl)
theorem dX5_init_11 : decode cX5_init 11 = .ok (.return_, 1) := dk_177 (dk_at dksX5_init_0 11 rfl rfl)
abbrev cX5_sort : ByteArray := prog_12_method_2_code
def yX5_sort : MethodName := ⟨RX5, "sort", "()I"⟩
theorem dX5_sort_0 : decode cX5_sort 0 = .ok (.iconst 0, 1) := by decide +kernel
theorem dX5_sort_1 : decode cX5_sort 1 = .ok (.ireturn, 1) := by decide +kernel
abbrev cX5_takes : ByteArray := prog_12_method_3_code
def yX5_takes : MethodName := ⟨RX5, "takes", "(II[I)I"⟩
def dkwX5_takes_0 : List UInt8 := [42, 180, 0, 7, 16, 9, 27, 100, 6, 108, 96, 172]
abbrev dktX5_takes_0 : List UInt8 := dkwX5_takes_0 ++ []
theorem dksX5_takes_0 : cX5_takes.data.toList.drop 0 = dktX5_takes_0 := by decide +kernel
theorem dX5_takes_0 : decode cX5_takes 0 = .ok (.aload_n 0, 1) := dk_42 (dk_at dksX5_takes_0 0 rfl rfl)
theorem dX5_takes_1 : decode cX5_takes 1 = .ok (.getfield 7, 3) := dk_180 0 7 (dk_at dksX5_takes_0 1 rfl rfl)
theorem dX5_takes_4 : decode cX5_takes 4 = .ok (.bipush 9, 2) := dk_16 9 (dk_at dksX5_takes_0 4 rfl rfl)
theorem dX5_takes_6 : decode cX5_takes 6 = .ok (.iload_n 1, 1) := dk_27 (dk_at dksX5_takes_0 6 rfl rfl)
theorem dX5_takes_7 : decode cX5_takes 7 = .ok (.isub, 1) := dk_100 (dk_at dksX5_takes_0 7 rfl rfl)
theorem dX5_takes_8 : decode cX5_takes 8 = .ok (.iconst 3, 1) := dk_6 (dk_at dksX5_takes_0 8 rfl rfl)
theorem dX5_takes_9 : decode cX5_takes 9 = .ok (.idiv, 1) := dk_108 (dk_at dksX5_takes_0 9 rfl rfl)
theorem dX5_takes_10 : decode cX5_takes 10 = .ok (.iadd, 1) := dk_96 (dk_at dksX5_takes_0 10 rfl rfl)
theorem dX5_takes_11 : decode cX5_takes 11 = .ok (.ireturn, 1) := dk_172 (dk_at dksX5_takes_0 11 rfl rfl)
theorem q111 : (Jvm.Cond.initialized "ValleyGuides$Path") ∈ lw_all := lw_g (lw_at lw_m1 9 rfl) rfl
theorem q174 : (Jvm.Cond.instantiable "ValleyGuides$Path" (5 : Nat)) ∈ lw_all := lw_g (lw_at lw_m1 72 rfl) rfl
theorem q176 : (Jvm.Cond.instanceMethod ({ cls := "ValleyGuides$Path", name := "<init>", desc := "(IIIIZ)V" } : Jvm.MethodName)) ∈ lw_all := lw_g (lw_at lw_m1 74 rfl) rfl
theorem q177 : (Jvm.Cond.code ({ cls := "ValleyGuides$Path", name := "<init>", desc := "(IIIIZ)V" } : Jvm.MethodName) prog_12_method_1_code (6 : Nat) (Option.none : Option Jvm.ClassFile.FieldType)) ∈ lw_all := lw_g (lw_at lw_m1 75 rfl) rfl
theorem q178 : (Jvm.Cond.methodLink "ValleyGuides$Path" (1 : Nat) ({ cls := "ValleyGuides$Step", name := "<init>", desc := "(IIIIZ)V" } : Jvm.MethodName)) ∈ lw_all := lw_g (lw_at lw_m1 76 rfl) rfl
theorem q191 : (Jvm.Cond.fieldLink "ValleyGuides$Path" (7 : Nat) "ValleyGuides$Path" "length" "I") ∈ lw_all := lw_g (lw_at lw_m1 89 rfl) rfl
theorem q192 : (Jvm.Cond.sameField "ValleyGuides$Path" "ValleyGuides$Step" "length" "I") ∈ lw_all := lw_g (lw_at lw_m1 90 rfl) rfl
theorem q206 : (Jvm.Cond.laysFinal "ValleyGuides$Path" "ValleyGuides$Step" "from" "I") ∈ lw_all := lw_g (lw_at lw_m1 104 rfl) rfl
theorem q208 : (Jvm.Cond.laysFinal "ValleyGuides$Path" "ValleyGuides$Step" "to" "I") ∈ lw_all := lw_g (lw_at lw_m1 106 rfl) rfl
theorem q210 : (Jvm.Cond.laysFinal "ValleyGuides$Path" "ValleyGuides$Step" "length" "I") ∈ lw_all := lw_g (lw_at lw_m1 108 rfl) rfl
theorem q212 : (Jvm.Cond.laysFinal "ValleyGuides$Path" "ValleyGuides$Step" "hard" "I") ∈ lw_all := lw_g (lw_at lw_m1 110 rfl) rfl
theorem q214 : (Jvm.Cond.laysFinal "ValleyGuides$Path" "ValleyGuides$Step" "isNarrow" "Z") ∈ lw_all := lw_g (lw_at lw_m1 112 rfl) rfl
theorem q216 : (Jvm.Cond.superclass "ValleyGuides$Path" "ValleyGuides$Step") ∈ lw_all := lw_g (lw_at lw_m1 114 rfl) rfl
theorem q280 : (Jvm.Cond.instanceMethod ({ cls := "ValleyGuides$Path", name := "sort", desc := "()I" } : Jvm.MethodName)) ∈ lw_all := lw_g (lw_at lw_m1 178 rfl) rfl
theorem q281 : (Jvm.Cond.code ({ cls := "ValleyGuides$Path", name := "sort", desc := "()I" } : Jvm.MethodName) prog_12_method_2_code (1 : Nat) (Option.some Jvm.ClassFile.FieldType.int)) ∈ lw_all := lw_g (lw_at lw_m1 179 rfl) rfl
theorem q282 : (Jvm.Cond.selects "ValleyGuides$Path" ({ cls := "ValleyGuides$Step", name := "sort", desc := "()I" } : Jvm.MethodName) ({ cls := "ValleyGuides$Path", name := "sort", desc := "()I" } : Jvm.MethodName)) ∈ lw_all := lw_g (lw_at lw_m1 180 rfl) rfl
theorem q384 : (Jvm.Cond.selects "ValleyGuides$Path" ({ cls := "java/lang/Object", name := "getClass", desc := "()Ljava/lang/Class;" } : Jvm.MethodName) ({ cls := "java/lang/Object", name := "getClass", desc := "()Ljava/lang/Class;" } : Jvm.MethodName)) ∈ lw_all := lw_g (lw_at lw_m2 42 rfl) rfl
theorem q912 : (Jvm.Cond.instanceMethod ({ cls := "ValleyGuides$Path", name := "takes", desc := "(II[I)I" } : Jvm.MethodName)) ∈ lw_all := lw_g (lw_at lw_m4 90 rfl) rfl
theorem q913 : (Jvm.Cond.code ({ cls := "ValleyGuides$Path", name := "takes", desc := "(II[I)I" } : Jvm.MethodName) prog_12_method_3_code (4 : Nat) (Option.some Jvm.ClassFile.FieldType.int)) ∈ lw_all := lw_g (lw_at lw_m4 91 rfl) rfl
theorem q914 : (Jvm.Cond.selects "ValleyGuides$Path" ({ cls := "ValleyGuides$Step", name := "takes", desc := "(II[I)I" } : Jvm.MethodName) ({ cls := "ValleyGuides$Path", name := "takes", desc := "(II[I)I" } : Jvm.MethodName)) ∈ lw_all := lw_g (lw_at lw_m4 92 rfl) rfl
theorem q1402 : (Jvm.Cond.selects "ValleyGuides$Path" ({ cls := "java/lang/Object", name := "equals", desc := "(Ljava/lang/Object;)Z" } : Jvm.MethodName) ({ cls := "java/lang/Object", name := "equals", desc := "(Ljava/lang/Object;)Z" } : Jvm.MethodName)) ∈ lw_all := lw_g (lw_at lw_m6 100 rfl) rfl
theorem q2407 : (Jvm.Cond.sameMethod "ValleyGuides$Path" "ValleyGuides$Path" "sort" "()I") ∈ lw_all := lw_g (lw_at lw_m10 145 rfl) rfl
theorem q2411 : (Jvm.Cond.sameMethod "ValleyGuides$Path" "ValleyGuides$Path" "takes" "(II[I)I") ∈ lw_all := lw_g (lw_at lw_m10 149 rfl) rfl
theorem q2416 : (Jvm.Cond.castable "ValleyGuides$Path" "ValleyGuides$Step") ∈ lw_tbl := lw_at lw_m10 154 rfl
theorem q2430 : (Jvm.Cond.castable "ValleyGuides$Path" "java/lang/Object") ∈ lw_tbl := lw_at lw_m10 168 rfl
theorem in_X5 : ∀ w ∈ wsX50, w ∈ lw_all := lw_in wsX50 [206, 208, 210, 212, 214] (by decide +kernel) (by decide +kernel)
/-! ValleyGuides$Ice -/
set_option maxRecDepth 100000
def RX6 : String := "ValleyGuides$Ice"
def TX6 : u_T := fun k => match k with
  | 0 => ("ValleyGuides$Step", "from", "I", true)
  | 1 => ("ValleyGuides$Step", "to", "I", true)
  | 2 => ("ValleyGuides$Step", "length", "I", true)
  | 3 => ("ValleyGuides$Step", "hard", "I", true)
  | _ => ("ValleyGuides$Step", "isNarrow", "Z", true)
def tyX6 : Nat → FieldType := fun k => match k with
  | 0 => .int
  | 1 => .int
  | 2 => .int
  | 3 => .int
  | _ => .boolean
abbrev wsX60 : List Cond := u_ws RX6 TX6 5
theorem nmX6 : ∀ a, a < 5 → ∀ b, b < 5 → a ≠ b → (TX6 a).2.1 ≠ (TX6 b).2.1 := by decide +kernel
theorem tyX6_ok : ∀ k, k < 5 → parseFieldDescriptor (TX6 k).2.2.1 = some (tyX6 k) := by decide +kernel
abbrev cX6_init : ByteArray := prog_6_method_1_code
def yX6_init : MethodName := ⟨RX6, "<init>", "(IIIIZ)V"⟩
def dkwX6_init_0 : List UInt8 := [42, 27, 28, 29, 21, 4, 21, 5, 183, 0, 1, 177]
abbrev dktX6_init_0 : List UInt8 := dkwX6_init_0 ++ []
theorem dksX6_init_0 : cX6_init.data.toList.drop 0 = dktX6_init_0 := by decide +kernel
theorem dX6_init_0 : decode cX6_init 0 = .ok (.aload_n 0, 1) := dk_42 (dk_at dksX6_init_0 0 rfl rfl)
theorem dX6_init_1 : decode cX6_init 1 = .ok (.iload_n 1, 1) := dk_27 (dk_at dksX6_init_0 1 rfl rfl)
theorem dX6_init_2 : decode cX6_init 2 = .ok (.iload_n 2, 1) := dk_28 (dk_at dksX6_init_0 2 rfl rfl)
theorem dX6_init_3 : decode cX6_init 3 = .ok (.iload_n 3, 1) := dk_29 (dk_at dksX6_init_0 3 rfl rfl)
theorem dX6_init_4 : decode cX6_init 4 = .ok (.iload 4, 2) := dk_21 4 (dk_at dksX6_init_0 4 rfl rfl)
theorem dX6_init_6 : decode cX6_init 6 = .ok (.iload 5, 2) := dk_21 5 (dk_at dksX6_init_0 6 rfl rfl)
theorem dX6_init_8 : decode cX6_init 8 = .ok (.invokespecial 1, 3) := dk_183 0 1 (dk_at dksX6_init_0 8 rfl rfl)
theorem dX6_init_11 : decode cX6_init 11 = .ok (.return_, 1) := dk_177 (dk_at dksX6_init_0 11 rfl rfl)
abbrev cX6_sort : ByteArray := prog_6_method_2_code
def yX6_sort : MethodName := ⟨RX6, "sort", "()I"⟩
def dkwX6_sort_0 : List UInt8 := [4, 42, 183, 0, 7, 96, 172]
abbrev dktX6_sort_0 : List UInt8 := dkwX6_sort_0 ++ []
theorem dksX6_sort_0 : cX6_sort.data.toList.drop 0 = dktX6_sort_0 := by decide +kernel
theorem dX6_sort_0 : decode cX6_sort 0 = .ok (.iconst 1, 1) := dk_4 (dk_at dksX6_sort_0 0 rfl rfl)
theorem dX6_sort_1 : decode cX6_sort 1 = .ok (.aload_n 0, 1) := dk_42 (dk_at dksX6_sort_0 1 rfl rfl)
theorem dX6_sort_2 : decode cX6_sort 2 = .ok (.invokespecial 7, 3) := dk_183 0 7 (dk_at dksX6_sort_0 2 rfl rfl)
theorem dX6_sort_5 : decode cX6_sort 5 = .ok (.iadd, 1) := dk_96 (dk_at dksX6_sort_0 5 rfl rfl)
theorem dX6_sort_6 : decode cX6_sort 6 = .ok (.ireturn, 1) := dk_172 (dk_at dksX6_sort_0 6 rfl rfl)
abbrev cX6_takes : ByteArray := prog_6_method_3_code
def yX6_takes : MethodName := ⟨RX6, "takes", "(II[I)I"⟩
def dkwX6_takes_1 : List UInt8 := [172]
abbrev dktX6_takes_1 : List UInt8 := dkwX6_takes_1 ++ []
def dkwX6_takes_0 : List UInt8 := [42, 27, 28, 45, 183, 0, 11, 54, 4, 28, 16, 48, 161, 0, 10, 5, 21, 4, 104, 167, 0, 5, 21, 4]
abbrev dktX6_takes_0 : List UInt8 := dkwX6_takes_0 ++ dktX6_takes_1
theorem dksX6_takes_0 : cX6_takes.data.toList.drop 0 = dktX6_takes_0 := by decide +kernel
theorem dksX6_takes_1 : cX6_takes.data.toList.drop 24 = dktX6_takes_1 := dk_seg dksX6_takes_0 24 rfl rfl
theorem dX6_takes_0 : decode cX6_takes 0 = .ok (.aload_n 0, 1) := dk_42 (dk_at dksX6_takes_0 0 rfl rfl)
theorem dX6_takes_1 : decode cX6_takes 1 = .ok (.iload_n 1, 1) := dk_27 (dk_at dksX6_takes_0 1 rfl rfl)
theorem dX6_takes_2 : decode cX6_takes 2 = .ok (.iload_n 2, 1) := dk_28 (dk_at dksX6_takes_0 2 rfl rfl)
theorem dX6_takes_3 : decode cX6_takes 3 = .ok (.aload_n 3, 1) := dk_45 (dk_at dksX6_takes_0 3 rfl rfl)
theorem dX6_takes_4 : decode cX6_takes 4 = .ok (.invokespecial 11, 3) := dk_183 0 11 (dk_at dksX6_takes_0 4 rfl rfl)
theorem dX6_takes_7 : decode cX6_takes 7 = .ok (.istore 4, 2) := dk_54 4 (dk_at dksX6_takes_0 7 rfl rfl)
theorem dX6_takes_9 : decode cX6_takes 9 = .ok (.iload_n 2, 1) := dk_28 (dk_at dksX6_takes_0 9 rfl rfl)
theorem dX6_takes_10 : decode cX6_takes 10 = .ok (.bipush 48, 2) := dk_16 48 (dk_at dksX6_takes_0 10 rfl rfl)
theorem dX6_takes_12 : decode cX6_takes 12 = .ok (.if_icmp .lt 10, 3) := dk_161 0 10 (dk_at dksX6_takes_0 12 rfl rfl)
theorem dX6_takes_15 : decode cX6_takes 15 = .ok (.iconst 2, 1) := dk_5 (dk_at dksX6_takes_0 15 rfl rfl)
theorem dX6_takes_16 : decode cX6_takes 16 = .ok (.iload 4, 2) := dk_21 4 (dk_at dksX6_takes_0 16 rfl rfl)
theorem dX6_takes_18 : decode cX6_takes 18 = .ok (.imul, 1) := dk_104 (dk_at dksX6_takes_0 18 rfl rfl)
theorem dX6_takes_19 : decode cX6_takes 19 = .ok (.goto 5, 3) := dk_167 0 5 (dk_at dksX6_takes_0 19 rfl rfl)
theorem dX6_takes_22 : decode cX6_takes 22 = .ok (.iload 4, 2) := dk_21 4 (dk_at dksX6_takes_0 22 rfl rfl)
theorem dX6_takes_24 : decode cX6_takes 24 = .ok (.ireturn, 1) := dk_172 (dk_at dksX6_takes_1 0 rfl rfl)
theorem q112 : (Jvm.Cond.initialized "ValleyGuides$Ice") ∈ lw_all := lw_g (lw_at lw_m1 10 rfl) rfl
theorem q218 : (Jvm.Cond.instantiable "ValleyGuides$Ice" (5 : Nat)) ∈ lw_all := lw_g (lw_at lw_m1 116 rfl) rfl
theorem q220 : (Jvm.Cond.instanceMethod ({ cls := "ValleyGuides$Ice", name := "<init>", desc := "(IIIIZ)V" } : Jvm.MethodName)) ∈ lw_all := lw_g (lw_at lw_m1 118 rfl) rfl
theorem q221 : (Jvm.Cond.code ({ cls := "ValleyGuides$Ice", name := "<init>", desc := "(IIIIZ)V" } : Jvm.MethodName) prog_6_method_1_code (6 : Nat) (Option.none : Option Jvm.ClassFile.FieldType)) ∈ lw_all := lw_g (lw_at lw_m1 119 rfl) rfl
theorem q222 : (Jvm.Cond.methodLink "ValleyGuides$Ice" (1 : Nat) ({ cls := "ValleyGuides$Path", name := "<init>", desc := "(IIIIZ)V" } : Jvm.MethodName)) ∈ lw_all := lw_g (lw_at lw_m1 120 rfl) rfl
theorem q223 : (Jvm.Cond.laysFinal "ValleyGuides$Ice" "ValleyGuides$Step" "from" "I") ∈ lw_all := lw_g (lw_at lw_m1 121 rfl) rfl
theorem q224 : (Jvm.Cond.laysFinal "ValleyGuides$Ice" "ValleyGuides$Step" "to" "I") ∈ lw_all := lw_g (lw_at lw_m1 122 rfl) rfl
theorem q225 : (Jvm.Cond.laysFinal "ValleyGuides$Ice" "ValleyGuides$Step" "length" "I") ∈ lw_all := lw_g (lw_at lw_m1 123 rfl) rfl
theorem q226 : (Jvm.Cond.laysFinal "ValleyGuides$Ice" "ValleyGuides$Step" "hard" "I") ∈ lw_all := lw_g (lw_at lw_m1 124 rfl) rfl
theorem q227 : (Jvm.Cond.laysFinal "ValleyGuides$Ice" "ValleyGuides$Step" "isNarrow" "Z") ∈ lw_all := lw_g (lw_at lw_m1 125 rfl) rfl
theorem q228 : (Jvm.Cond.superclass "ValleyGuides$Ice" "ValleyGuides$Path") ∈ lw_all := lw_g (lw_at lw_m1 126 rfl) rfl
theorem q276 : (Jvm.Cond.selects "ValleyGuides$Ice" ({ cls := "ValleyGuides$Step", name := "sort", desc := "()I" } : Jvm.MethodName) ({ cls := "ValleyGuides$Ice", name := "sort", desc := "()I" } : Jvm.MethodName)) ∈ lw_all := lw_g (lw_at lw_m1 174 rfl) rfl
theorem q277 : (Jvm.Cond.instanceMethod ({ cls := "ValleyGuides$Ice", name := "sort", desc := "()I" } : Jvm.MethodName)) ∈ lw_all := lw_g (lw_at lw_m1 175 rfl) rfl
theorem q278 : (Jvm.Cond.code ({ cls := "ValleyGuides$Ice", name := "sort", desc := "()I" } : Jvm.MethodName) prog_6_method_2_code (1 : Nat) (Option.some Jvm.ClassFile.FieldType.int)) ∈ lw_all := lw_g (lw_at lw_m1 176 rfl) rfl
theorem q279 : (Jvm.Cond.methodLink "ValleyGuides$Ice" (7 : Nat) ({ cls := "ValleyGuides$Path", name := "sort", desc := "()I" } : Jvm.MethodName)) ∈ lw_all := lw_g (lw_at lw_m1 177 rfl) rfl
theorem q379 : (Jvm.Cond.selects "ValleyGuides$Ice" ({ cls := "java/lang/Object", name := "getClass", desc := "()Ljava/lang/Class;" } : Jvm.MethodName) ({ cls := "java/lang/Object", name := "getClass", desc := "()Ljava/lang/Class;" } : Jvm.MethodName)) ∈ lw_all := lw_g (lw_at lw_m2 37 rfl) rfl
theorem q908 : (Jvm.Cond.selects "ValleyGuides$Ice" ({ cls := "ValleyGuides$Step", name := "takes", desc := "(II[I)I" } : Jvm.MethodName) ({ cls := "ValleyGuides$Ice", name := "takes", desc := "(II[I)I" } : Jvm.MethodName)) ∈ lw_all := lw_g (lw_at lw_m4 86 rfl) rfl
theorem q909 : (Jvm.Cond.instanceMethod ({ cls := "ValleyGuides$Ice", name := "takes", desc := "(II[I)I" } : Jvm.MethodName)) ∈ lw_all := lw_g (lw_at lw_m4 87 rfl) rfl
theorem q910 : (Jvm.Cond.code ({ cls := "ValleyGuides$Ice", name := "takes", desc := "(II[I)I" } : Jvm.MethodName) prog_6_method_3_code (5 : Nat) (Option.some Jvm.ClassFile.FieldType.int)) ∈ lw_all := lw_g (lw_at lw_m4 88 rfl) rfl
theorem q911 : (Jvm.Cond.methodLink "ValleyGuides$Ice" (11 : Nat) ({ cls := "ValleyGuides$Path", name := "takes", desc := "(II[I)I" } : Jvm.MethodName)) ∈ lw_all := lw_g (lw_at lw_m4 89 rfl) rfl
theorem q1397 : (Jvm.Cond.selects "ValleyGuides$Ice" ({ cls := "java/lang/Object", name := "equals", desc := "(Ljava/lang/Object;)Z" } : Jvm.MethodName) ({ cls := "java/lang/Object", name := "equals", desc := "(Ljava/lang/Object;)Z" } : Jvm.MethodName)) ∈ lw_all := lw_g (lw_at lw_m6 95 rfl) rfl
theorem q2409 : (Jvm.Cond.sameMethod "ValleyGuides$Ice" "ValleyGuides$Ice" "sort" "()I") ∈ lw_all := lw_g (lw_at lw_m10 147 rfl) rfl
theorem q2413 : (Jvm.Cond.sameMethod "ValleyGuides$Ice" "ValleyGuides$Ice" "takes" "(II[I)I") ∈ lw_all := lw_g (lw_at lw_m10 151 rfl) rfl
theorem q2415 : (Jvm.Cond.castable "ValleyGuides$Ice" "ValleyGuides$Step") ∈ lw_tbl := lw_at lw_m10 153 rfl
theorem q2431 : (Jvm.Cond.castable "ValleyGuides$Ice" "java/lang/Object") ∈ lw_tbl := lw_at lw_m10 169 rfl
theorem in_X6 : ∀ w ∈ wsX60, w ∈ lw_all := lw_in wsX60 [223, 224, 225, 226, 227] (by decide +kernel) (by decide +kernel)
/-! ValleyGuides$Rock -/
set_option maxRecDepth 100000
def RX7 : String := "ValleyGuides$Rock"
def TX7 : u_T := fun k => match k with
  | 0 => ("ValleyGuides$Step", "from", "I", true)
  | 1 => ("ValleyGuides$Step", "to", "I", true)
  | 2 => ("ValleyGuides$Step", "length", "I", true)
  | 3 => ("ValleyGuides$Step", "hard", "I", true)
  | _ => ("ValleyGuides$Step", "isNarrow", "Z", true)
def tyX7 : Nat → FieldType := fun k => match k with
  | 0 => .int
  | 1 => .int
  | 2 => .int
  | 3 => .int
  | _ => .boolean
abbrev wsX70 : List Cond := u_ws RX7 TX7 5
theorem nmX7 : ∀ a, a < 5 → ∀ b, b < 5 → a ≠ b → (TX7 a).2.1 ≠ (TX7 b).2.1 := by decide +kernel
theorem tyX7_ok : ∀ k, k < 5 → parseFieldDescriptor (TX7 k).2.2.1 = some (tyX7 k) := by decide +kernel
abbrev cX7_init : ByteArray := prog_16_method_1_code
def yX7_init : MethodName := ⟨RX7, "<init>", "(IIIIZ)V"⟩
def dkwX7_init_0 : List UInt8 := [42, 27, 28, 29, 21, 4, 21, 5, 183, 0, 3, 177]
abbrev dktX7_init_0 : List UInt8 := dkwX7_init_0 ++ []
theorem dksX7_init_0 : cX7_init.data.toList.drop 0 = dktX7_init_0 := by decide +kernel
theorem dX7_init_0 : decode cX7_init 0 = .ok (.aload_n 0, 1) := dk_42 (dk_at dksX7_init_0 0 rfl rfl)
theorem dX7_init_1 : decode cX7_init 1 = .ok (.iload_n 1, 1) := dk_27 (dk_at dksX7_init_0 1 rfl rfl)
theorem dX7_init_2 : decode cX7_init 2 = .ok (.iload_n 2, 1) := dk_28 (dk_at dksX7_init_0 2 rfl rfl)
theorem dX7_init_3 : decode cX7_init 3 = .ok (.iload_n 3, 1) := dk_29 (dk_at dksX7_init_0 3 rfl rfl)
theorem dX7_init_4 : decode cX7_init 4 = .ok (.iload 4, 2) := dk_21 4 (dk_at dksX7_init_0 4 rfl rfl)
theorem dX7_init_6 : decode cX7_init 6 = .ok (.iload 5, 2) := dk_21 5 (dk_at dksX7_init_0 6 rfl rfl)
theorem dX7_init_8 : decode cX7_init 8 = .ok (.invokespecial 3, 3) := dk_183 0 3 (dk_at dksX7_init_0 8 rfl rfl)
theorem dX7_init_11 : decode cX7_init 11 = .ok (.return_, 1) := dk_177 (dk_at dksX7_init_0 11 rfl rfl)
abbrev cX7_sort : ByteArray := prog_16_method_2_code
def yX7_sort : MethodName := ⟨RX7, "sort", "()I"⟩
def dkwX7_sort_0 : List UInt8 := [5, 42, 183, 0, 9, 96, 172]
abbrev dktX7_sort_0 : List UInt8 := dkwX7_sort_0 ++ []
theorem dksX7_sort_0 : cX7_sort.data.toList.drop 0 = dktX7_sort_0 := by decide +kernel
theorem dX7_sort_0 : decode cX7_sort 0 = .ok (.iconst 2, 1) := dk_5 (dk_at dksX7_sort_0 0 rfl rfl)
theorem dX7_sort_1 : decode cX7_sort 1 = .ok (.aload_n 0, 1) := dk_42 (dk_at dksX7_sort_0 1 rfl rfl)
theorem dX7_sort_2 : decode cX7_sort 2 = .ok (.invokespecial 9, 3) := dk_183 0 9 (dk_at dksX7_sort_0 2 rfl rfl)
theorem dX7_sort_5 : decode cX7_sort 5 = .ok (.iadd, 1) := dk_96 (dk_at dksX7_sort_0 5 rfl rfl)
theorem dX7_sort_6 : decode cX7_sort 6 = .ok (.ireturn, 1) := dk_172 (dk_at dksX7_sort_0 6 rfl rfl)
abbrev cX7_takes : ByteArray := prog_16_method_3_code
def yX7_takes : MethodName := ⟨RX7, "takes", "(II[I)I"⟩
def dkwX7_takes_1 : List UInt8 := [158, 0, 10, 5, 21, 4, 104, 167, 0, 5, 21, 4, 96, 172]
abbrev dktX7_takes_1 : List UInt8 := dkwX7_takes_1 ++ []
def dkwX7_takes_0 : List UInt8 := [42, 180, 0, 13, 16, 10, 27, 100, 104, 7, 108, 54, 4, 42, 27, 28, 45, 183, 0, 19, 45, 4, 46]
abbrev dktX7_takes_0 : List UInt8 := dkwX7_takes_0 ++ dktX7_takes_1
theorem dksX7_takes_0 : cX7_takes.data.toList.drop 0 = dktX7_takes_0 := by decide +kernel
theorem dksX7_takes_1 : cX7_takes.data.toList.drop 23 = dktX7_takes_1 := dk_seg dksX7_takes_0 23 rfl rfl
theorem dX7_takes_0 : decode cX7_takes 0 = .ok (.aload_n 0, 1) := dk_42 (dk_at dksX7_takes_0 0 rfl rfl)
theorem dX7_takes_1 : decode cX7_takes 1 = .ok (.getfield 13, 3) := dk_180 0 13 (dk_at dksX7_takes_0 1 rfl rfl)
theorem dX7_takes_4 : decode cX7_takes 4 = .ok (.bipush 10, 2) := dk_16 10 (dk_at dksX7_takes_0 4 rfl rfl)
theorem dX7_takes_6 : decode cX7_takes 6 = .ok (.iload_n 1, 1) := dk_27 (dk_at dksX7_takes_0 6 rfl rfl)
theorem dX7_takes_7 : decode cX7_takes 7 = .ok (.isub, 1) := dk_100 (dk_at dksX7_takes_0 7 rfl rfl)
theorem dX7_takes_8 : decode cX7_takes 8 = .ok (.imul, 1) := dk_104 (dk_at dksX7_takes_0 8 rfl rfl)
theorem dX7_takes_9 : decode cX7_takes 9 = .ok (.iconst 4, 1) := dk_7 (dk_at dksX7_takes_0 9 rfl rfl)
theorem dX7_takes_10 : decode cX7_takes 10 = .ok (.idiv, 1) := dk_108 (dk_at dksX7_takes_0 10 rfl rfl)
theorem dX7_takes_11 : decode cX7_takes 11 = .ok (.istore 4, 2) := dk_54 4 (dk_at dksX7_takes_0 11 rfl rfl)
theorem dX7_takes_13 : decode cX7_takes 13 = .ok (.aload_n 0, 1) := dk_42 (dk_at dksX7_takes_0 13 rfl rfl)
theorem dX7_takes_14 : decode cX7_takes 14 = .ok (.iload_n 1, 1) := dk_27 (dk_at dksX7_takes_0 14 rfl rfl)
theorem dX7_takes_15 : decode cX7_takes 15 = .ok (.iload_n 2, 1) := dk_28 (dk_at dksX7_takes_0 15 rfl rfl)
theorem dX7_takes_16 : decode cX7_takes 16 = .ok (.aload_n 3, 1) := dk_45 (dk_at dksX7_takes_0 16 rfl rfl)
theorem dX7_takes_17 : decode cX7_takes 17 = .ok (.invokespecial 19, 3) := dk_183 0 19 (dk_at dksX7_takes_0 17 rfl rfl)
theorem dX7_takes_20 : decode cX7_takes 20 = .ok (.aload_n 3, 1) := dk_45 (dk_at dksX7_takes_0 20 rfl rfl)
theorem dX7_takes_21 : decode cX7_takes 21 = .ok (.iconst 1, 1) := dk_4 (dk_at dksX7_takes_0 21 rfl rfl)
theorem dX7_takes_22 : decode cX7_takes 22 = .ok (.iaload, 1) := dk_46 (dk_at dksX7_takes_0 22 rfl rfl)
theorem dX7_takes_23 : decode cX7_takes 23 = .ok (.ifCond .le 10, 3) := dk_158 0 10 (dk_at dksX7_takes_1 0 rfl rfl)
theorem dX7_takes_26 : decode cX7_takes 26 = .ok (.iconst 2, 1) := dk_5 (dk_at dksX7_takes_1 3 rfl rfl)
theorem dX7_takes_27 : decode cX7_takes 27 = .ok (.iload 4, 2) := dk_21 4 (dk_at dksX7_takes_1 4 rfl rfl)
theorem dX7_takes_29 : decode cX7_takes 29 = .ok (.imul, 1) := dk_104 (dk_at dksX7_takes_1 6 rfl rfl)
theorem dX7_takes_30 : decode cX7_takes 30 = .ok (.goto 5, 3) := dk_167 0 5 (dk_at dksX7_takes_1 7 rfl rfl)
theorem dX7_takes_33 : decode cX7_takes 33 = .ok (.iload 4, 2) := dk_21 4 (dk_at dksX7_takes_1 10 rfl rfl)
theorem dX7_takes_35 : decode cX7_takes 35 = .ok (.iadd, 1) := dk_96 (dk_at dksX7_takes_1 12 rfl rfl)
theorem dX7_takes_36 : decode cX7_takes 36 = .ok (.ireturn, 1) := dk_172 (dk_at dksX7_takes_1 13 rfl rfl)
theorem q113 : (Jvm.Cond.initialized "ValleyGuides$Rock") ∈ lw_all := lw_g (lw_at lw_m1 11 rfl) rfl
theorem q196 : (Jvm.Cond.fieldLink "ValleyGuides$Rock" (13 : Nat) "ValleyGuides$Rock" "hard" "I") ∈ lw_all := lw_g (lw_at lw_m1 94 rfl) rfl
theorem q197 : (Jvm.Cond.sameField "ValleyGuides$Rock" "ValleyGuides$Step" "hard" "I") ∈ lw_all := lw_g (lw_at lw_m1 95 rfl) rfl
theorem q230 : (Jvm.Cond.instantiable "ValleyGuides$Rock" (5 : Nat)) ∈ lw_all := lw_g (lw_at lw_m1 128 rfl) rfl
theorem q232 : (Jvm.Cond.instanceMethod ({ cls := "ValleyGuides$Rock", name := "<init>", desc := "(IIIIZ)V" } : Jvm.MethodName)) ∈ lw_all := lw_g (lw_at lw_m1 130 rfl) rfl
theorem q233 : (Jvm.Cond.code ({ cls := "ValleyGuides$Rock", name := "<init>", desc := "(IIIIZ)V" } : Jvm.MethodName) prog_16_method_1_code (6 : Nat) (Option.none : Option Jvm.ClassFile.FieldType)) ∈ lw_all := lw_g (lw_at lw_m1 131 rfl) rfl
theorem q234 : (Jvm.Cond.methodLink "ValleyGuides$Rock" (3 : Nat) ({ cls := "ValleyGuides$Path", name := "<init>", desc := "(IIIIZ)V" } : Jvm.MethodName)) ∈ lw_all := lw_g (lw_at lw_m1 132 rfl) rfl
theorem q235 : (Jvm.Cond.laysFinal "ValleyGuides$Rock" "ValleyGuides$Step" "from" "I") ∈ lw_all := lw_g (lw_at lw_m1 133 rfl) rfl
theorem q236 : (Jvm.Cond.laysFinal "ValleyGuides$Rock" "ValleyGuides$Step" "to" "I") ∈ lw_all := lw_g (lw_at lw_m1 134 rfl) rfl
theorem q237 : (Jvm.Cond.laysFinal "ValleyGuides$Rock" "ValleyGuides$Step" "length" "I") ∈ lw_all := lw_g (lw_at lw_m1 135 rfl) rfl
theorem q238 : (Jvm.Cond.laysFinal "ValleyGuides$Rock" "ValleyGuides$Step" "hard" "I") ∈ lw_all := lw_g (lw_at lw_m1 136 rfl) rfl
theorem q239 : (Jvm.Cond.laysFinal "ValleyGuides$Rock" "ValleyGuides$Step" "isNarrow" "Z") ∈ lw_all := lw_g (lw_at lw_m1 137 rfl) rfl
theorem q240 : (Jvm.Cond.superclass "ValleyGuides$Rock" "ValleyGuides$Path") ∈ lw_all := lw_g (lw_at lw_m1 138 rfl) rfl
theorem q287 : (Jvm.Cond.instanceMethod ({ cls := "ValleyGuides$Rock", name := "sort", desc := "()I" } : Jvm.MethodName)) ∈ lw_all := lw_g (lw_at lw_m1 185 rfl) rfl
theorem q288 : (Jvm.Cond.code ({ cls := "ValleyGuides$Rock", name := "sort", desc := "()I" } : Jvm.MethodName) prog_16_method_2_code (1 : Nat) (Option.some Jvm.ClassFile.FieldType.int)) ∈ lw_all := lw_g (lw_at lw_m1 186 rfl) rfl
theorem q289 : (Jvm.Cond.methodLink "ValleyGuides$Rock" (9 : Nat) ({ cls := "ValleyGuides$Path", name := "sort", desc := "()I" } : Jvm.MethodName)) ∈ lw_all := lw_g (lw_at lw_m1 187 rfl) rfl
theorem q290 : (Jvm.Cond.selects "ValleyGuides$Rock" ({ cls := "ValleyGuides$Step", name := "sort", desc := "()I" } : Jvm.MethodName) ({ cls := "ValleyGuides$Rock", name := "sort", desc := "()I" } : Jvm.MethodName)) ∈ lw_all := lw_g (lw_at lw_m1 188 rfl) rfl
theorem q388 : (Jvm.Cond.selects "ValleyGuides$Rock" ({ cls := "java/lang/Object", name := "getClass", desc := "()Ljava/lang/Class;" } : Jvm.MethodName) ({ cls := "java/lang/Object", name := "getClass", desc := "()Ljava/lang/Class;" } : Jvm.MethodName)) ∈ lw_all := lw_g (lw_at lw_m2 46 rfl) rfl
theorem q919 : (Jvm.Cond.instanceMethod ({ cls := "ValleyGuides$Rock", name := "takes", desc := "(II[I)I" } : Jvm.MethodName)) ∈ lw_all := lw_g (lw_at lw_m4 97 rfl) rfl
theorem q920 : (Jvm.Cond.code ({ cls := "ValleyGuides$Rock", name := "takes", desc := "(II[I)I" } : Jvm.MethodName) prog_16_method_3_code (5 : Nat) (Option.some Jvm.ClassFile.FieldType.int)) ∈ lw_all := lw_g (lw_at lw_m4 98 rfl) rfl
theorem q921 : (Jvm.Cond.methodLink "ValleyGuides$Rock" (19 : Nat) ({ cls := "ValleyGuides$Path", name := "takes", desc := "(II[I)I" } : Jvm.MethodName)) ∈ lw_all := lw_g (lw_at lw_m4 99 rfl) rfl
theorem q922 : (Jvm.Cond.selects "ValleyGuides$Rock" ({ cls := "ValleyGuides$Step", name := "takes", desc := "(II[I)I" } : Jvm.MethodName) ({ cls := "ValleyGuides$Rock", name := "takes", desc := "(II[I)I" } : Jvm.MethodName)) ∈ lw_all := lw_g (lw_at lw_m4 100 rfl) rfl
theorem q1406 : (Jvm.Cond.selects "ValleyGuides$Rock" ({ cls := "java/lang/Object", name := "equals", desc := "(Ljava/lang/Object;)Z" } : Jvm.MethodName) ({ cls := "java/lang/Object", name := "equals", desc := "(Ljava/lang/Object;)Z" } : Jvm.MethodName)) ∈ lw_all := lw_g (lw_at lw_m6 104 rfl) rfl
theorem q2408 : (Jvm.Cond.sameMethod "ValleyGuides$Rock" "ValleyGuides$Rock" "sort" "()I") ∈ lw_all := lw_g (lw_at lw_m10 146 rfl) rfl
theorem q2412 : (Jvm.Cond.sameMethod "ValleyGuides$Rock" "ValleyGuides$Rock" "takes" "(II[I)I") ∈ lw_all := lw_g (lw_at lw_m10 150 rfl) rfl
theorem q2418 : (Jvm.Cond.castable "ValleyGuides$Rock" "ValleyGuides$Step") ∈ lw_tbl := lw_at lw_m10 156 rfl
theorem q2432 : (Jvm.Cond.castable "ValleyGuides$Rock" "java/lang/Object") ∈ lw_tbl := lw_at lw_m10 170 rfl
theorem in_X7 : ∀ w ∈ wsX70, w ∈ lw_all := lw_in wsX70 [235, 236, 237, 238, 239] (by decide +kernel) (by decide +kernel)
/-! ValleyGuides$Snow -/
set_option maxRecDepth 100000
def RX8 : String := "ValleyGuides$Snow"
def TX8 : u_T := fun k => match k with
  | 0 => ("ValleyGuides$Step", "from", "I", true)
  | 1 => ("ValleyGuides$Step", "to", "I", true)
  | 2 => ("ValleyGuides$Step", "length", "I", true)
  | 3 => ("ValleyGuides$Step", "hard", "I", true)
  | _ => ("ValleyGuides$Step", "isNarrow", "Z", true)
def tyX8 : Nat → FieldType := fun k => match k with
  | 0 => .int
  | 1 => .int
  | 2 => .int
  | 3 => .int
  | _ => .boolean
abbrev wsX80 : List Cond := u_ws RX8 TX8 5
theorem nmX8 : ∀ a, a < 5 → ∀ b, b < 5 → a ≠ b → (TX8 a).2.1 ≠ (TX8 b).2.1 := by decide +kernel
theorem tyX8_ok : ∀ k, k < 5 → parseFieldDescriptor (TX8 k).2.2.1 = some (tyX8 k) := by decide +kernel
abbrev cX8_init : ByteArray := prog_20_method_1_code
def yX8_init : MethodName := ⟨RX8, "<init>", "(IIIIZ)V"⟩
def dkwX8_init_0 : List UInt8 := [42, 27, 28, 29, 21, 4, 21, 5, 183, 0, 3, 177]
abbrev dktX8_init_0 : List UInt8 := dkwX8_init_0 ++ []
theorem dksX8_init_0 : cX8_init.data.toList.drop 0 = dktX8_init_0 := by decide +kernel
theorem dX8_init_0 : decode cX8_init 0 = .ok (.aload_n 0, 1) := dk_42 (dk_at dksX8_init_0 0 rfl rfl)
theorem dX8_init_1 : decode cX8_init 1 = .ok (.iload_n 1, 1) := dk_27 (dk_at dksX8_init_0 1 rfl rfl)
theorem dX8_init_2 : decode cX8_init 2 = .ok (.iload_n 2, 1) := dk_28 (dk_at dksX8_init_0 2 rfl rfl)
theorem dX8_init_3 : decode cX8_init 3 = .ok (.iload_n 3, 1) := dk_29 (dk_at dksX8_init_0 3 rfl rfl)
theorem dX8_init_4 : decode cX8_init 4 = .ok (.iload 4, 2) := dk_21 4 (dk_at dksX8_init_0 4 rfl rfl)
theorem dX8_init_6 : decode cX8_init 6 = .ok (.iload 5, 2) := dk_21 5 (dk_at dksX8_init_0 6 rfl rfl)
theorem dX8_init_8 : decode cX8_init 8 = .ok (.invokespecial 3, 3) := dk_183 0 3 (dk_at dksX8_init_0 8 rfl rfl)
theorem dX8_init_11 : decode cX8_init 11 = .ok (.return_, 1) := dk_177 (dk_at dksX8_init_0 11 rfl rfl)
abbrev cX8_sort : ByteArray := prog_20_method_2_code
def yX8_sort : MethodName := ⟨RX8, "sort", "()I"⟩
def dkwX8_sort_0 : List UInt8 := [5, 42, 183, 0, 9, 96, 172]
abbrev dktX8_sort_0 : List UInt8 := dkwX8_sort_0 ++ []
theorem dksX8_sort_0 : cX8_sort.data.toList.drop 0 = dktX8_sort_0 := by decide +kernel
theorem dX8_sort_0 : decode cX8_sort 0 = .ok (.iconst 2, 1) := dk_5 (dk_at dksX8_sort_0 0 rfl rfl)
theorem dX8_sort_1 : decode cX8_sort 1 = .ok (.aload_n 0, 1) := dk_42 (dk_at dksX8_sort_0 1 rfl rfl)
theorem dX8_sort_2 : decode cX8_sort 2 = .ok (.invokespecial 9, 3) := dk_183 0 9 (dk_at dksX8_sort_0 2 rfl rfl)
theorem dX8_sort_5 : decode cX8_sort 5 = .ok (.iadd, 1) := dk_96 (dk_at dksX8_sort_0 5 rfl rfl)
theorem dX8_sort_6 : decode cX8_sort 6 = .ok (.ireturn, 1) := dk_172 (dk_at dksX8_sort_0 6 rfl rfl)
abbrev cX8_takes : ByteArray := prog_20_method_3_code
def yX8_takes : MethodName := ⟨RX8, "takes", "(II[I)I"⟩
def dkwX8_takes_1 : List UInt8 := [183, 0, 19, 45, 5, 46, 16, 10, 108, 96, 172]
abbrev dktX8_takes_1 : List UInt8 := dkwX8_takes_1 ++ []
def dkwX8_takes_0 : List UInt8 := [45, 5, 46, 5, 42, 180, 0, 13, 104, 96, 16, 60, 164, 0, 8, 16, 251, 167, 0, 17, 42, 27, 28, 45]
abbrev dktX8_takes_0 : List UInt8 := dkwX8_takes_0 ++ dktX8_takes_1
theorem dksX8_takes_0 : cX8_takes.data.toList.drop 0 = dktX8_takes_0 := by decide +kernel
theorem dksX8_takes_1 : cX8_takes.data.toList.drop 24 = dktX8_takes_1 := dk_seg dksX8_takes_0 24 rfl rfl
theorem dX8_takes_0 : decode cX8_takes 0 = .ok (.aload_n 3, 1) := dk_45 (dk_at dksX8_takes_0 0 rfl rfl)
theorem dX8_takes_1 : decode cX8_takes 1 = .ok (.iconst 2, 1) := dk_5 (dk_at dksX8_takes_0 1 rfl rfl)
theorem dX8_takes_2 : decode cX8_takes 2 = .ok (.iaload, 1) := dk_46 (dk_at dksX8_takes_0 2 rfl rfl)
theorem dX8_takes_3 : decode cX8_takes 3 = .ok (.iconst 2, 1) := dk_5 (dk_at dksX8_takes_0 3 rfl rfl)
theorem dX8_takes_4 : decode cX8_takes 4 = .ok (.aload_n 0, 1) := dk_42 (dk_at dksX8_takes_0 4 rfl rfl)
theorem dX8_takes_5 : decode cX8_takes 5 = .ok (.getfield 13, 3) := dk_180 0 13 (dk_at dksX8_takes_0 5 rfl rfl)
theorem dX8_takes_8 : decode cX8_takes 8 = .ok (.imul, 1) := dk_104 (dk_at dksX8_takes_0 8 rfl rfl)
theorem dX8_takes_9 : decode cX8_takes 9 = .ok (.iadd, 1) := dk_96 (dk_at dksX8_takes_0 9 rfl rfl)
theorem dX8_takes_10 : decode cX8_takes 10 = .ok (.bipush 60, 2) := dk_16 60 (dk_at dksX8_takes_0 10 rfl rfl)
theorem dX8_takes_12 : decode cX8_takes 12 = .ok (.if_icmp .le 8, 3) := dk_164 0 8 (dk_at dksX8_takes_0 12 rfl rfl)
theorem dX8_takes_15 : decode cX8_takes 15 = .ok (.bipush (-5), 2) := dk_16 251 (dk_at dksX8_takes_0 15 rfl rfl)
theorem dX8_takes_17 : decode cX8_takes 17 = .ok (.goto 17, 3) := dk_167 0 17 (dk_at dksX8_takes_0 17 rfl rfl)
theorem dX8_takes_20 : decode cX8_takes 20 = .ok (.aload_n 0, 1) := dk_42 (dk_at dksX8_takes_0 20 rfl rfl)
theorem dX8_takes_21 : decode cX8_takes 21 = .ok (.iload_n 1, 1) := dk_27 (dk_at dksX8_takes_0 21 rfl rfl)
theorem dX8_takes_22 : decode cX8_takes 22 = .ok (.iload_n 2, 1) := dk_28 (dk_at dksX8_takes_0 22 rfl rfl)
theorem dX8_takes_23 : decode cX8_takes 23 = .ok (.aload_n 3, 1) := dk_45 (dk_at dksX8_takes_0 23 rfl rfl)
theorem dX8_takes_24 : decode cX8_takes 24 = .ok (.invokespecial 19, 3) := dk_183 0 19 (dk_at dksX8_takes_1 0 rfl rfl)
theorem dX8_takes_27 : decode cX8_takes 27 = .ok (.aload_n 3, 1) := dk_45 (dk_at dksX8_takes_1 3 rfl rfl)
theorem dX8_takes_28 : decode cX8_takes 28 = .ok (.iconst 2, 1) := dk_5 (dk_at dksX8_takes_1 4 rfl rfl)
theorem dX8_takes_29 : decode cX8_takes 29 = .ok (.iaload, 1) := dk_46 (dk_at dksX8_takes_1 5 rfl rfl)
theorem dX8_takes_30 : decode cX8_takes 30 = .ok (.bipush 10, 2) := dk_16 10 (dk_at dksX8_takes_1 6 rfl rfl)
theorem dX8_takes_32 : decode cX8_takes 32 = .ok (.idiv, 1) := dk_108 (dk_at dksX8_takes_1 8 rfl rfl)
theorem dX8_takes_33 : decode cX8_takes 33 = .ok (.iadd, 1) := dk_96 (dk_at dksX8_takes_1 9 rfl rfl)
theorem dX8_takes_34 : decode cX8_takes 34 = .ok (.ireturn, 1) := dk_172 (dk_at dksX8_takes_1 10 rfl rfl)
theorem q114 : (Jvm.Cond.initialized "ValleyGuides$Snow") ∈ lw_all := lw_g (lw_at lw_m1 12 rfl) rfl
theorem q198 : (Jvm.Cond.fieldLink "ValleyGuides$Snow" (13 : Nat) "ValleyGuides$Snow" "hard" "I") ∈ lw_all := lw_g (lw_at lw_m1 96 rfl) rfl
theorem q199 : (Jvm.Cond.sameField "ValleyGuides$Snow" "ValleyGuides$Step" "hard" "I") ∈ lw_all := lw_g (lw_at lw_m1 97 rfl) rfl
theorem q242 : (Jvm.Cond.instantiable "ValleyGuides$Snow" (5 : Nat)) ∈ lw_all := lw_g (lw_at lw_m1 140 rfl) rfl
theorem q244 : (Jvm.Cond.instanceMethod ({ cls := "ValleyGuides$Snow", name := "<init>", desc := "(IIIIZ)V" } : Jvm.MethodName)) ∈ lw_all := lw_g (lw_at lw_m1 142 rfl) rfl
theorem q245 : (Jvm.Cond.code ({ cls := "ValleyGuides$Snow", name := "<init>", desc := "(IIIIZ)V" } : Jvm.MethodName) prog_20_method_1_code (6 : Nat) (Option.none : Option Jvm.ClassFile.FieldType)) ∈ lw_all := lw_g (lw_at lw_m1 143 rfl) rfl
theorem q246 : (Jvm.Cond.methodLink "ValleyGuides$Snow" (3 : Nat) ({ cls := "ValleyGuides$Ice", name := "<init>", desc := "(IIIIZ)V" } : Jvm.MethodName)) ∈ lw_all := lw_g (lw_at lw_m1 144 rfl) rfl
theorem q247 : (Jvm.Cond.laysFinal "ValleyGuides$Snow" "ValleyGuides$Step" "from" "I") ∈ lw_all := lw_g (lw_at lw_m1 145 rfl) rfl
theorem q248 : (Jvm.Cond.laysFinal "ValleyGuides$Snow" "ValleyGuides$Step" "to" "I") ∈ lw_all := lw_g (lw_at lw_m1 146 rfl) rfl
theorem q249 : (Jvm.Cond.laysFinal "ValleyGuides$Snow" "ValleyGuides$Step" "length" "I") ∈ lw_all := lw_g (lw_at lw_m1 147 rfl) rfl
theorem q250 : (Jvm.Cond.laysFinal "ValleyGuides$Snow" "ValleyGuides$Step" "hard" "I") ∈ lw_all := lw_g (lw_at lw_m1 148 rfl) rfl
theorem q251 : (Jvm.Cond.laysFinal "ValleyGuides$Snow" "ValleyGuides$Step" "isNarrow" "Z") ∈ lw_all := lw_g (lw_at lw_m1 149 rfl) rfl
theorem q252 : (Jvm.Cond.superclass "ValleyGuides$Snow" "ValleyGuides$Ice") ∈ lw_all := lw_g (lw_at lw_m1 150 rfl) rfl
theorem q291 : (Jvm.Cond.selects "ValleyGuides$Snow" ({ cls := "ValleyGuides$Step", name := "sort", desc := "()I" } : Jvm.MethodName) ({ cls := "ValleyGuides$Snow", name := "sort", desc := "()I" } : Jvm.MethodName)) ∈ lw_all := lw_g (lw_at lw_m1 189 rfl) rfl
theorem q292 : (Jvm.Cond.instanceMethod ({ cls := "ValleyGuides$Snow", name := "sort", desc := "()I" } : Jvm.MethodName)) ∈ lw_all := lw_g (lw_at lw_m1 190 rfl) rfl
theorem q293 : (Jvm.Cond.code ({ cls := "ValleyGuides$Snow", name := "sort", desc := "()I" } : Jvm.MethodName) prog_20_method_2_code (1 : Nat) (Option.some Jvm.ClassFile.FieldType.int)) ∈ lw_all := lw_g (lw_at lw_m1 191 rfl) rfl
theorem q294 : (Jvm.Cond.methodLink "ValleyGuides$Snow" (9 : Nat) ({ cls := "ValleyGuides$Ice", name := "sort", desc := "()I" } : Jvm.MethodName)) ∈ lw_all := lw_g (lw_at lw_m1 192 rfl) rfl
theorem q392 : (Jvm.Cond.selects "ValleyGuides$Snow" ({ cls := "java/lang/Object", name := "getClass", desc := "()Ljava/lang/Class;" } : Jvm.MethodName) ({ cls := "java/lang/Object", name := "getClass", desc := "()Ljava/lang/Class;" } : Jvm.MethodName)) ∈ lw_all := lw_g (lw_at lw_m2 50 rfl) rfl
theorem q923 : (Jvm.Cond.selects "ValleyGuides$Snow" ({ cls := "ValleyGuides$Step", name := "takes", desc := "(II[I)I" } : Jvm.MethodName) ({ cls := "ValleyGuides$Snow", name := "takes", desc := "(II[I)I" } : Jvm.MethodName)) ∈ lw_all := lw_g (lw_at lw_m4 101 rfl) rfl
theorem q924 : (Jvm.Cond.instanceMethod ({ cls := "ValleyGuides$Snow", name := "takes", desc := "(II[I)I" } : Jvm.MethodName)) ∈ lw_all := lw_g (lw_at lw_m4 102 rfl) rfl
theorem q925 : (Jvm.Cond.code ({ cls := "ValleyGuides$Snow", name := "takes", desc := "(II[I)I" } : Jvm.MethodName) prog_20_method_3_code (4 : Nat) (Option.some Jvm.ClassFile.FieldType.int)) ∈ lw_all := lw_g (lw_at lw_m4 103 rfl) rfl
theorem q926 : (Jvm.Cond.methodLink "ValleyGuides$Snow" (19 : Nat) ({ cls := "ValleyGuides$Ice", name := "takes", desc := "(II[I)I" } : Jvm.MethodName)) ∈ lw_all := lw_g (lw_at lw_m4 104 rfl) rfl
theorem q1410 : (Jvm.Cond.selects "ValleyGuides$Snow" ({ cls := "java/lang/Object", name := "equals", desc := "(Ljava/lang/Object;)Z" } : Jvm.MethodName) ({ cls := "java/lang/Object", name := "equals", desc := "(Ljava/lang/Object;)Z" } : Jvm.MethodName)) ∈ lw_all := lw_g (lw_at lw_m6 108 rfl) rfl
theorem q2419 : (Jvm.Cond.castable "ValleyGuides$Snow" "ValleyGuides$Step") ∈ lw_tbl := lw_at lw_m10 157 rfl
theorem q2433 : (Jvm.Cond.castable "ValleyGuides$Snow" "java/lang/Object") ∈ lw_tbl := lw_at lw_m10 171 rfl
theorem in_X8 : ∀ w ∈ wsX80, w ∈ lw_all := lw_in wsX80 [247, 248, 249, 250, 251] (by decide +kernel) (by decide +kernel)
/-! ValleyGuides$Ridge -/
set_option maxRecDepth 100000
def RX9 : String := "ValleyGuides$Ridge"
def TX9 : u_T := fun k => match k with
  | 0 => ("ValleyGuides$Step", "from", "I", true)
  | 1 => ("ValleyGuides$Step", "to", "I", true)
  | 2 => ("ValleyGuides$Step", "length", "I", true)
  | 3 => ("ValleyGuides$Step", "hard", "I", true)
  | _ => ("ValleyGuides$Step", "isNarrow", "Z", true)
def tyX9 : Nat → FieldType := fun k => match k with
  | 0 => .int
  | 1 => .int
  | 2 => .int
  | 3 => .int
  | _ => .boolean
abbrev wsX90 : List Cond := u_ws RX9 TX9 5
theorem nmX9 : ∀ a, a < 5 → ∀ b, b < 5 → a ≠ b → (TX9 a).2.1 ≠ (TX9 b).2.1 := by decide +kernel
theorem tyX9_ok : ∀ k, k < 5 → parseFieldDescriptor (TX9 k).2.2.1 = some (tyX9 k) := by decide +kernel
abbrev cX9_init : ByteArray := prog_15_method_1_code
def yX9_init : MethodName := ⟨RX9, "<init>", "(IIIIZ)V"⟩
def dkwX9_init_0 : List UInt8 := [42, 27, 28, 29, 21, 4, 21, 5, 183, 0, 3, 177]
abbrev dktX9_init_0 : List UInt8 := dkwX9_init_0 ++ []
theorem dksX9_init_0 : cX9_init.data.toList.drop 0 = dktX9_init_0 := by decide +kernel
theorem dX9_init_0 : decode cX9_init 0 = .ok (.aload_n 0, 1) := dk_42 (dk_at dksX9_init_0 0 rfl rfl)
theorem dX9_init_1 : decode cX9_init 1 = .ok (.iload_n 1, 1) := dk_27 (dk_at dksX9_init_0 1 rfl rfl)
theorem dX9_init_2 : decode cX9_init 2 = .ok (.iload_n 2, 1) := dk_28 (dk_at dksX9_init_0 2 rfl rfl)
theorem dX9_init_3 : decode cX9_init 3 = .ok (.iload_n 3, 1) := dk_29 (dk_at dksX9_init_0 3 rfl rfl)
theorem dX9_init_4 : decode cX9_init 4 = .ok (.iload 4, 2) := dk_21 4 (dk_at dksX9_init_0 4 rfl rfl)
theorem dX9_init_6 : decode cX9_init 6 = .ok (.iload 5, 2) := dk_21 5 (dk_at dksX9_init_0 6 rfl rfl)
theorem dX9_init_8 : decode cX9_init 8 = .ok (.invokespecial 3, 3) := dk_183 0 3 (dk_at dksX9_init_0 8 rfl rfl)
theorem dX9_init_11 : decode cX9_init 11 = .ok (.return_, 1) := dk_177 (dk_at dksX9_init_0 11 rfl rfl)
abbrev cX9_sort : ByteArray := prog_15_method_2_code
def yX9_sort : MethodName := ⟨RX9, "sort", "()I"⟩
def dkwX9_sort_0 : List UInt8 := [5, 42, 183, 0, 9, 96, 172]
abbrev dktX9_sort_0 : List UInt8 := dkwX9_sort_0 ++ []
theorem dksX9_sort_0 : cX9_sort.data.toList.drop 0 = dktX9_sort_0 := by decide +kernel
theorem dX9_sort_0 : decode cX9_sort 0 = .ok (.iconst 2, 1) := dk_5 (dk_at dksX9_sort_0 0 rfl rfl)
theorem dX9_sort_1 : decode cX9_sort 1 = .ok (.aload_n 0, 1) := dk_42 (dk_at dksX9_sort_0 1 rfl rfl)
theorem dX9_sort_2 : decode cX9_sort 2 = .ok (.invokespecial 9, 3) := dk_183 0 9 (dk_at dksX9_sort_0 2 rfl rfl)
theorem dX9_sort_5 : decode cX9_sort 5 = .ok (.iadd, 1) := dk_96 (dk_at dksX9_sort_0 5 rfl rfl)
theorem dX9_sort_6 : decode cX9_sort 6 = .ok (.ireturn, 1) := dk_172 (dk_at dksX9_sort_0 6 rfl rfl)
abbrev cX9_takes : ByteArray := prog_15_method_3_code
def yX9_takes : MethodName := ⟨RX9, "takes", "(II[I)I"⟩
def dkwX9_takes_1 : List UInt8 := [45, 183, 0, 19, 45, 3, 46, 16, 40, 108, 96, 172]
abbrev dktX9_takes_1 : List UInt8 := dkwX9_takes_1 ++ []
def dkwX9_takes_0 : List UInt8 := [45, 3, 46, 16, 100, 16, 10, 42, 180, 0, 13, 104, 100, 164, 0, 8, 16, 251, 167, 0, 17, 42, 27, 28]
abbrev dktX9_takes_0 : List UInt8 := dkwX9_takes_0 ++ dktX9_takes_1
theorem dksX9_takes_0 : cX9_takes.data.toList.drop 0 = dktX9_takes_0 := by decide +kernel
theorem dksX9_takes_1 : cX9_takes.data.toList.drop 24 = dktX9_takes_1 := dk_seg dksX9_takes_0 24 rfl rfl
theorem dX9_takes_0 : decode cX9_takes 0 = .ok (.aload_n 3, 1) := dk_45 (dk_at dksX9_takes_0 0 rfl rfl)
theorem dX9_takes_1 : decode cX9_takes 1 = .ok (.iconst 0, 1) := dk_3 (dk_at dksX9_takes_0 1 rfl rfl)
theorem dX9_takes_2 : decode cX9_takes 2 = .ok (.iaload, 1) := dk_46 (dk_at dksX9_takes_0 2 rfl rfl)
theorem dX9_takes_3 : decode cX9_takes 3 = .ok (.bipush 100, 2) := dk_16 100 (dk_at dksX9_takes_0 3 rfl rfl)
theorem dX9_takes_5 : decode cX9_takes 5 = .ok (.bipush 10, 2) := dk_16 10 (dk_at dksX9_takes_0 5 rfl rfl)
theorem dX9_takes_7 : decode cX9_takes 7 = .ok (.aload_n 0, 1) := dk_42 (dk_at dksX9_takes_0 7 rfl rfl)
theorem dX9_takes_8 : decode cX9_takes 8 = .ok (.getfield 13, 3) := dk_180 0 13 (dk_at dksX9_takes_0 8 rfl rfl)
theorem dX9_takes_11 : decode cX9_takes 11 = .ok (.imul, 1) := dk_104 (dk_at dksX9_takes_0 11 rfl rfl)
theorem dX9_takes_12 : decode cX9_takes 12 = .ok (.isub, 1) := dk_100 (dk_at dksX9_takes_0 12 rfl rfl)
theorem dX9_takes_13 : decode cX9_takes 13 = .ok (.if_icmp .le 8, 3) := dk_164 0 8 (dk_at dksX9_takes_0 13 rfl rfl)
theorem dX9_takes_16 : decode cX9_takes 16 = .ok (.bipush (-5), 2) := dk_16 251 (dk_at dksX9_takes_0 16 rfl rfl)
theorem dX9_takes_18 : decode cX9_takes 18 = .ok (.goto 17, 3) := dk_167 0 17 (dk_at dksX9_takes_0 18 rfl rfl)
theorem dX9_takes_21 : decode cX9_takes 21 = .ok (.aload_n 0, 1) := dk_42 (dk_at dksX9_takes_0 21 rfl rfl)
theorem dX9_takes_22 : decode cX9_takes 22 = .ok (.iload_n 1, 1) := dk_27 (dk_at dksX9_takes_0 22 rfl rfl)
theorem dX9_takes_23 : decode cX9_takes 23 = .ok (.iload_n 2, 1) := dk_28 (dk_at dksX9_takes_0 23 rfl rfl)
theorem dX9_takes_24 : decode cX9_takes 24 = .ok (.aload_n 3, 1) := dk_45 (dk_at dksX9_takes_1 0 rfl rfl)
theorem dX9_takes_25 : decode cX9_takes 25 = .ok (.invokespecial 19, 3) := dk_183 0 19 (dk_at dksX9_takes_1 1 rfl rfl)
theorem dX9_takes_28 : decode cX9_takes 28 = .ok (.aload_n 3, 1) := dk_45 (dk_at dksX9_takes_1 4 rfl rfl)
theorem dX9_takes_29 : decode cX9_takes 29 = .ok (.iconst 0, 1) := dk_3 (dk_at dksX9_takes_1 5 rfl rfl)
theorem dX9_takes_30 : decode cX9_takes 30 = .ok (.iaload, 1) := dk_46 (dk_at dksX9_takes_1 6 rfl rfl)
theorem dX9_takes_31 : decode cX9_takes 31 = .ok (.bipush 40, 2) := dk_16 40 (dk_at dksX9_takes_1 7 rfl rfl)
theorem dX9_takes_33 : decode cX9_takes 33 = .ok (.idiv, 1) := dk_108 (dk_at dksX9_takes_1 9 rfl rfl)
theorem dX9_takes_34 : decode cX9_takes 34 = .ok (.iadd, 1) := dk_96 (dk_at dksX9_takes_1 10 rfl rfl)
theorem dX9_takes_35 : decode cX9_takes 35 = .ok (.ireturn, 1) := dk_172 (dk_at dksX9_takes_1 11 rfl rfl)
theorem q115 : (Jvm.Cond.initialized "ValleyGuides$Ridge") ∈ lw_all := lw_g (lw_at lw_m1 13 rfl) rfl
theorem q200 : (Jvm.Cond.fieldLink "ValleyGuides$Ridge" (13 : Nat) "ValleyGuides$Ridge" "hard" "I") ∈ lw_all := lw_g (lw_at lw_m1 98 rfl) rfl
theorem q201 : (Jvm.Cond.sameField "ValleyGuides$Ridge" "ValleyGuides$Step" "hard" "I") ∈ lw_all := lw_g (lw_at lw_m1 99 rfl) rfl
theorem q254 : (Jvm.Cond.instantiable "ValleyGuides$Ridge" (5 : Nat)) ∈ lw_all := lw_g (lw_at lw_m1 152 rfl) rfl
theorem q256 : (Jvm.Cond.instanceMethod ({ cls := "ValleyGuides$Ridge", name := "<init>", desc := "(IIIIZ)V" } : Jvm.MethodName)) ∈ lw_all := lw_g (lw_at lw_m1 154 rfl) rfl
theorem q257 : (Jvm.Cond.code ({ cls := "ValleyGuides$Ridge", name := "<init>", desc := "(IIIIZ)V" } : Jvm.MethodName) prog_15_method_1_code (6 : Nat) (Option.none : Option Jvm.ClassFile.FieldType)) ∈ lw_all := lw_g (lw_at lw_m1 155 rfl) rfl
theorem q258 : (Jvm.Cond.methodLink "ValleyGuides$Ridge" (3 : Nat) ({ cls := "ValleyGuides$Rock", name := "<init>", desc := "(IIIIZ)V" } : Jvm.MethodName)) ∈ lw_all := lw_g (lw_at lw_m1 156 rfl) rfl
theorem q259 : (Jvm.Cond.laysFinal "ValleyGuides$Ridge" "ValleyGuides$Step" "from" "I") ∈ lw_all := lw_g (lw_at lw_m1 157 rfl) rfl
theorem q260 : (Jvm.Cond.laysFinal "ValleyGuides$Ridge" "ValleyGuides$Step" "to" "I") ∈ lw_all := lw_g (lw_at lw_m1 158 rfl) rfl
theorem q261 : (Jvm.Cond.laysFinal "ValleyGuides$Ridge" "ValleyGuides$Step" "length" "I") ∈ lw_all := lw_g (lw_at lw_m1 159 rfl) rfl
theorem q262 : (Jvm.Cond.laysFinal "ValleyGuides$Ridge" "ValleyGuides$Step" "hard" "I") ∈ lw_all := lw_g (lw_at lw_m1 160 rfl) rfl
theorem q263 : (Jvm.Cond.laysFinal "ValleyGuides$Ridge" "ValleyGuides$Step" "isNarrow" "Z") ∈ lw_all := lw_g (lw_at lw_m1 161 rfl) rfl
theorem q264 : (Jvm.Cond.superclass "ValleyGuides$Ridge" "ValleyGuides$Rock") ∈ lw_all := lw_g (lw_at lw_m1 162 rfl) rfl
theorem q283 : (Jvm.Cond.selects "ValleyGuides$Ridge" ({ cls := "ValleyGuides$Step", name := "sort", desc := "()I" } : Jvm.MethodName) ({ cls := "ValleyGuides$Ridge", name := "sort", desc := "()I" } : Jvm.MethodName)) ∈ lw_all := lw_g (lw_at lw_m1 181 rfl) rfl
theorem q284 : (Jvm.Cond.instanceMethod ({ cls := "ValleyGuides$Ridge", name := "sort", desc := "()I" } : Jvm.MethodName)) ∈ lw_all := lw_g (lw_at lw_m1 182 rfl) rfl
theorem q285 : (Jvm.Cond.code ({ cls := "ValleyGuides$Ridge", name := "sort", desc := "()I" } : Jvm.MethodName) prog_15_method_2_code (1 : Nat) (Option.some Jvm.ClassFile.FieldType.int)) ∈ lw_all := lw_g (lw_at lw_m1 183 rfl) rfl
theorem q286 : (Jvm.Cond.methodLink "ValleyGuides$Ridge" (9 : Nat) ({ cls := "ValleyGuides$Rock", name := "sort", desc := "()I" } : Jvm.MethodName)) ∈ lw_all := lw_g (lw_at lw_m1 184 rfl) rfl
theorem q387 : (Jvm.Cond.selects "ValleyGuides$Ridge" ({ cls := "java/lang/Object", name := "getClass", desc := "()Ljava/lang/Class;" } : Jvm.MethodName) ({ cls := "java/lang/Object", name := "getClass", desc := "()Ljava/lang/Class;" } : Jvm.MethodName)) ∈ lw_all := lw_g (lw_at lw_m2 45 rfl) rfl
theorem q915 : (Jvm.Cond.selects "ValleyGuides$Ridge" ({ cls := "ValleyGuides$Step", name := "takes", desc := "(II[I)I" } : Jvm.MethodName) ({ cls := "ValleyGuides$Ridge", name := "takes", desc := "(II[I)I" } : Jvm.MethodName)) ∈ lw_all := lw_g (lw_at lw_m4 93 rfl) rfl
theorem q916 : (Jvm.Cond.instanceMethod ({ cls := "ValleyGuides$Ridge", name := "takes", desc := "(II[I)I" } : Jvm.MethodName)) ∈ lw_all := lw_g (lw_at lw_m4 94 rfl) rfl
theorem q917 : (Jvm.Cond.code ({ cls := "ValleyGuides$Ridge", name := "takes", desc := "(II[I)I" } : Jvm.MethodName) prog_15_method_3_code (4 : Nat) (Option.some Jvm.ClassFile.FieldType.int)) ∈ lw_all := lw_g (lw_at lw_m4 95 rfl) rfl
theorem q918 : (Jvm.Cond.methodLink "ValleyGuides$Ridge" (19 : Nat) ({ cls := "ValleyGuides$Rock", name := "takes", desc := "(II[I)I" } : Jvm.MethodName)) ∈ lw_all := lw_g (lw_at lw_m4 96 rfl) rfl
theorem q1405 : (Jvm.Cond.selects "ValleyGuides$Ridge" ({ cls := "java/lang/Object", name := "equals", desc := "(Ljava/lang/Object;)Z" } : Jvm.MethodName) ({ cls := "java/lang/Object", name := "equals", desc := "(Ljava/lang/Object;)Z" } : Jvm.MethodName)) ∈ lw_all := lw_g (lw_at lw_m6 103 rfl) rfl
theorem q2417 : (Jvm.Cond.castable "ValleyGuides$Ridge" "ValleyGuides$Step") ∈ lw_tbl := lw_at lw_m10 155 rfl
theorem q2434 : (Jvm.Cond.castable "ValleyGuides$Ridge" "java/lang/Object") ∈ lw_tbl := lw_at lw_m10 172 rfl
theorem in_X9 : ∀ w ∈ wsX90, w ∈ lw_all := lw_in wsX90 [259, 260, 261, 262, 263] (by decide +kernel) (by decide +kernel)
/-! ValleyGuides$Route -/
set_option maxRecDepth 100000
def RX10 : String := "ValleyGuides$Route"
def TX10 : u_T := fun k => match k with
  | _ => ("ValleyGuides$Route", "steps", "Ljava/util/List;", true)
def tyX10 : Nat → FieldType := fun k => match k with
  | _ => .object "java/util/List"
abbrev wsX100 : List Cond := u_ws RX10 TX10 1
theorem nmX10 : ∀ a, a < 1 → ∀ b, b < 1 → a ≠ b → (TX10 a).2.1 ≠ (TX10 b).2.1 := by decide +kernel
theorem tyX10_ok : ∀ k, k < 1 → parseFieldDescriptor (TX10 k).2.2.1 = some (tyX10 k) := by decide +kernel
abbrev cX10_init : ByteArray := prog_18_method_1_code
def yX10_init : MethodName := ⟨RX10, "<init>", "()V"⟩
def dkwX10_init_0 : List UInt8 := [42, 183, 0, 1, 42, 187, 0, 7, 89, 183, 0, 9, 181, 0, 10, 177]
abbrev dktX10_init_0 : List UInt8 := dkwX10_init_0 ++ []
theorem dksX10_init_0 : cX10_init.data.toList.drop 0 = dktX10_init_0 := by decide +kernel
theorem dX10_init_0 : decode cX10_init 0 = .ok (.aload_n 0, 1) := dk_42 (dk_at dksX10_init_0 0 rfl rfl)
theorem dX10_init_1 : decode cX10_init 1 = .ok (.invokespecial 1, 3) := dk_183 0 1 (dk_at dksX10_init_0 1 rfl rfl)
theorem dX10_init_4 : decode cX10_init 4 = .ok (.aload_n 0, 1) := dk_42 (dk_at dksX10_init_0 4 rfl rfl)
theorem dX10_init_5 : decode cX10_init 5 = .ok (.new 7, 3) := dk_187 0 7 (dk_at dksX10_init_0 5 rfl rfl)
theorem dX10_init_8 : decode cX10_init 8 = .ok (.dup, 1) := dk_89 (dk_at dksX10_init_0 8 rfl rfl)
theorem dX10_init_9 : decode cX10_init 9 = .ok (.invokespecial 9, 3) := dk_183 0 9 (dk_at dksX10_init_0 9 rfl rfl)
theorem dX10_init_12 : decode cX10_init 12 = .ok (.putfield 10, 3) := dk_181 0 10 (dk_at dksX10_init_0 12 rfl rfl)
theorem dX10_init_15 : decode cX10_init 15 = .ok (.return_, 1) := dk_177 (dk_at dksX10_init_0 15 rfl rfl)
abbrev cX10_ends : ByteArray := prog_18_method_3_code
def yX10_ends : MethodName := ⟨RX10, "ends", "()I"⟩
def dkwX10_ends_1 : List UInt8 := [180, 0, 32, 172]
abbrev dktX10_ends_1 : List UInt8 := dkwX10_ends_1 ++ []
def dkwX10_ends_0 : List UInt8 := [42, 180, 0, 10, 42, 180, 0, 10, 185, 0, 28, 1, 0, 4, 100, 185, 0, 16, 2, 0, 192, 0, 22]
abbrev dktX10_ends_0 : List UInt8 := dkwX10_ends_0 ++ dktX10_ends_1
theorem dksX10_ends_0 : cX10_ends.data.toList.drop 0 = dktX10_ends_0 := by decide +kernel
theorem dksX10_ends_1 : cX10_ends.data.toList.drop 23 = dktX10_ends_1 := dk_seg dksX10_ends_0 23 rfl rfl
theorem dX10_ends_0 : decode cX10_ends 0 = .ok (.aload_n 0, 1) := dk_42 (dk_at dksX10_ends_0 0 rfl rfl)
theorem dX10_ends_1 : decode cX10_ends 1 = .ok (.getfield 10, 3) := dk_180 0 10 (dk_at dksX10_ends_0 1 rfl rfl)
theorem dX10_ends_4 : decode cX10_ends 4 = .ok (.aload_n 0, 1) := dk_42 (dk_at dksX10_ends_0 4 rfl rfl)
theorem dX10_ends_5 : decode cX10_ends 5 = .ok (.getfield 10, 3) := dk_180 0 10 (dk_at dksX10_ends_0 5 rfl rfl)
theorem dX10_ends_8 : decode cX10_ends 8 = .ok (.invokeinterface 28 1, 5) := by decide +kernel
theorem dX10_ends_13 : decode cX10_ends 13 = .ok (.iconst 1, 1) := dk_4 (dk_at dksX10_ends_0 13 rfl rfl)
theorem dX10_ends_14 : decode cX10_ends 14 = .ok (.isub, 1) := dk_100 (dk_at dksX10_ends_0 14 rfl rfl)
theorem dX10_ends_15 : decode cX10_ends 15 = .ok (.invokeinterface 16 2, 5) := by decide +kernel
theorem dX10_ends_20 : decode cX10_ends 20 = .ok (.checkcast 22, 3) := dk_192 0 22 (dk_at dksX10_ends_0 20 rfl rfl)
theorem dX10_ends_23 : decode cX10_ends 23 = .ok (.getfield 32, 3) := dk_180 0 32 (dk_at dksX10_ends_1 0 rfl rfl)
theorem dX10_ends_26 : decode cX10_ends 26 = .ok (.ireturn, 1) := dk_172 (dk_at dksX10_ends_1 3 rfl rfl)
abbrev cX10_begins : ByteArray := prog_18_method_2_code
def yX10_begins : MethodName := ⟨RX10, "begins", "()I"⟩
def dkwX10_begins_0 : List UInt8 := [42, 180, 0, 10, 3, 185, 0, 16, 2, 0, 192, 0, 22, 180, 0, 24, 172]
abbrev dktX10_begins_0 : List UInt8 := dkwX10_begins_0 ++ []
theorem dksX10_begins_0 : cX10_begins.data.toList.drop 0 = dktX10_begins_0 := by decide +kernel
theorem dX10_begins_0 : decode cX10_begins 0 = .ok (.aload_n 0, 1) := dk_42 (dk_at dksX10_begins_0 0 rfl rfl)
theorem dX10_begins_1 : decode cX10_begins 1 = .ok (.getfield 10, 3) := dk_180 0 10 (dk_at dksX10_begins_0 1 rfl rfl)
theorem dX10_begins_4 : decode cX10_begins 4 = .ok (.iconst 0, 1) := dk_3 (dk_at dksX10_begins_0 4 rfl rfl)
theorem dX10_begins_5 : decode cX10_begins 5 = .ok (.invokeinterface 16 2, 5) := by decide +kernel
theorem dX10_begins_10 : decode cX10_begins 10 = .ok (.checkcast 22, 3) := dk_192 0 22 (dk_at dksX10_begins_0 10 rfl rfl)
theorem dX10_begins_13 : decode cX10_begins 13 = .ok (.getfield 24, 3) := dk_180 0 24 (dk_at dksX10_begins_0 13 rfl rfl)
theorem dX10_begins_16 : decode cX10_begins 16 = .ok (.ireturn, 1) := dk_172 (dk_at dksX10_begins_0 16 rfl rfl)
abbrev cX10_hardest : ByteArray := prog_18_method_4_code
def yX10_hardest : MethodName := ⟨RX10, "hardest", "()I"⟩
def dkwX10_hardest_1 : List UInt8 := [185, 0, 16, 2, 0, 192, 0, 22, 180, 0, 35, 184, 0, 38, 60, 132, 2, 1, 167, 255, 219, 27, 172]
abbrev dktX10_hardest_1 : List UInt8 := dkwX10_hardest_1 ++ []
def dkwX10_hardest_0 : List UInt8 := [3, 60, 3, 61, 28, 42, 180, 0, 10, 185, 0, 28, 1, 0, 162, 0, 30, 27, 42, 180, 0, 10, 28]
abbrev dktX10_hardest_0 : List UInt8 := dkwX10_hardest_0 ++ dktX10_hardest_1
theorem dksX10_hardest_0 : cX10_hardest.data.toList.drop 0 = dktX10_hardest_0 := by decide +kernel
theorem dksX10_hardest_1 : cX10_hardest.data.toList.drop 23 = dktX10_hardest_1 := dk_seg dksX10_hardest_0 23 rfl rfl
theorem dX10_hardest_0 : decode cX10_hardest 0 = .ok (.iconst 0, 1) := dk_3 (dk_at dksX10_hardest_0 0 rfl rfl)
theorem dX10_hardest_1 : decode cX10_hardest 1 = .ok (.istore_n 1, 1) := dk_60 (dk_at dksX10_hardest_0 1 rfl rfl)
theorem dX10_hardest_2 : decode cX10_hardest 2 = .ok (.iconst 0, 1) := dk_3 (dk_at dksX10_hardest_0 2 rfl rfl)
theorem dX10_hardest_3 : decode cX10_hardest 3 = .ok (.istore_n 2, 1) := dk_61 (dk_at dksX10_hardest_0 3 rfl rfl)
theorem dX10_hardest_4 : decode cX10_hardest 4 = .ok (.iload_n 2, 1) := dk_28 (dk_at dksX10_hardest_0 4 rfl rfl)
theorem dX10_hardest_5 : decode cX10_hardest 5 = .ok (.aload_n 0, 1) := dk_42 (dk_at dksX10_hardest_0 5 rfl rfl)
theorem dX10_hardest_6 : decode cX10_hardest 6 = .ok (.getfield 10, 3) := dk_180 0 10 (dk_at dksX10_hardest_0 6 rfl rfl)
theorem dX10_hardest_9 : decode cX10_hardest 9 = .ok (.invokeinterface 28 1, 5) := by decide +kernel
theorem dX10_hardest_14 : decode cX10_hardest 14 = .ok (.if_icmp .ge 30, 3) := dk_162 0 30 (dk_at dksX10_hardest_0 14 rfl rfl)
theorem dX10_hardest_17 : decode cX10_hardest 17 = .ok (.iload_n 1, 1) := dk_27 (dk_at dksX10_hardest_0 17 rfl rfl)
theorem dX10_hardest_18 : decode cX10_hardest 18 = .ok (.aload_n 0, 1) := dk_42 (dk_at dksX10_hardest_0 18 rfl rfl)
theorem dX10_hardest_19 : decode cX10_hardest 19 = .ok (.getfield 10, 3) := dk_180 0 10 (dk_at dksX10_hardest_0 19 rfl rfl)
theorem dX10_hardest_22 : decode cX10_hardest 22 = .ok (.iload_n 2, 1) := dk_28 (dk_at dksX10_hardest_0 22 rfl rfl)
theorem dX10_hardest_23 : decode cX10_hardest 23 = .ok (.invokeinterface 16 2, 5) := by decide +kernel
theorem dX10_hardest_28 : decode cX10_hardest 28 = .ok (.checkcast 22, 3) := dk_192 0 22 (dk_at dksX10_hardest_1 5 rfl rfl)
theorem dX10_hardest_31 : decode cX10_hardest 31 = .ok (.getfield 35, 3) := dk_180 0 35 (dk_at dksX10_hardest_1 8 rfl rfl)
theorem dX10_hardest_34 : decode cX10_hardest 34 = .ok (.invokestatic 38, 3) := dk_184 0 38 (dk_at dksX10_hardest_1 11 rfl rfl)
theorem dX10_hardest_37 : decode cX10_hardest 37 = .ok (.istore_n 1, 1) := dk_60 (dk_at dksX10_hardest_1 14 rfl rfl)
theorem dX10_hardest_38 : decode cX10_hardest 38 = .ok (.iinc 2 1, 3) := dk_132 2 1 (dk_at dksX10_hardest_1 15 rfl rfl)
theorem dX10_hardest_41 : decode cX10_hardest 41 = .ok (.goto (-37), 3) := dk_167 255 219 (dk_at dksX10_hardest_1 18 rfl rfl)
theorem dX10_hardest_44 : decode cX10_hardest 44 = .ok (.iload_n 1, 1) := dk_27 (dk_at dksX10_hardest_1 21 rfl rfl)
theorem dX10_hardest_45 : decode cX10_hardest 45 = .ok (.ireturn, 1) := dk_172 (dk_at dksX10_hardest_1 22 rfl rfl)
abbrev cX10_hard : ByteArray := prog_18_method_5_code
def yX10_hard : MethodName := ⟨RX10, "hard", "()I"⟩
def dkwX10_hard_1 : List UInt8 := [185, 0, 16, 2, 0, 192, 0, 22, 180, 0, 35, 96, 60, 132, 2, 1, 167, 255, 221, 27, 172]
abbrev dktX10_hard_1 : List UInt8 := dkwX10_hard_1 ++ []
def dkwX10_hard_0 : List UInt8 := [3, 60, 3, 61, 28, 42, 180, 0, 10, 185, 0, 28, 1, 0, 162, 0, 28, 27, 42, 180, 0, 10, 28]
abbrev dktX10_hard_0 : List UInt8 := dkwX10_hard_0 ++ dktX10_hard_1
theorem dksX10_hard_0 : cX10_hard.data.toList.drop 0 = dktX10_hard_0 := by decide +kernel
theorem dksX10_hard_1 : cX10_hard.data.toList.drop 23 = dktX10_hard_1 := dk_seg dksX10_hard_0 23 rfl rfl
theorem dX10_hard_0 : decode cX10_hard 0 = .ok (.iconst 0, 1) := dk_3 (dk_at dksX10_hard_0 0 rfl rfl)
theorem dX10_hard_1 : decode cX10_hard 1 = .ok (.istore_n 1, 1) := dk_60 (dk_at dksX10_hard_0 1 rfl rfl)
theorem dX10_hard_2 : decode cX10_hard 2 = .ok (.iconst 0, 1) := dk_3 (dk_at dksX10_hard_0 2 rfl rfl)
theorem dX10_hard_3 : decode cX10_hard 3 = .ok (.istore_n 2, 1) := dk_61 (dk_at dksX10_hard_0 3 rfl rfl)
theorem dX10_hard_4 : decode cX10_hard 4 = .ok (.iload_n 2, 1) := dk_28 (dk_at dksX10_hard_0 4 rfl rfl)
theorem dX10_hard_5 : decode cX10_hard 5 = .ok (.aload_n 0, 1) := dk_42 (dk_at dksX10_hard_0 5 rfl rfl)
theorem dX10_hard_6 : decode cX10_hard 6 = .ok (.getfield 10, 3) := dk_180 0 10 (dk_at dksX10_hard_0 6 rfl rfl)
theorem dX10_hard_9 : decode cX10_hard 9 = .ok (.invokeinterface 28 1, 5) := by decide +kernel
theorem dX10_hard_14 : decode cX10_hard 14 = .ok (.if_icmp .ge 28, 3) := dk_162 0 28 (dk_at dksX10_hard_0 14 rfl rfl)
theorem dX10_hard_17 : decode cX10_hard 17 = .ok (.iload_n 1, 1) := dk_27 (dk_at dksX10_hard_0 17 rfl rfl)
theorem dX10_hard_18 : decode cX10_hard 18 = .ok (.aload_n 0, 1) := dk_42 (dk_at dksX10_hard_0 18 rfl rfl)
theorem dX10_hard_19 : decode cX10_hard 19 = .ok (.getfield 10, 3) := dk_180 0 10 (dk_at dksX10_hard_0 19 rfl rfl)
theorem dX10_hard_22 : decode cX10_hard 22 = .ok (.iload_n 2, 1) := dk_28 (dk_at dksX10_hard_0 22 rfl rfl)
theorem dX10_hard_23 : decode cX10_hard 23 = .ok (.invokeinterface 16 2, 5) := by decide +kernel
theorem dX10_hard_28 : decode cX10_hard 28 = .ok (.checkcast 22, 3) := dk_192 0 22 (dk_at dksX10_hard_1 5 rfl rfl)
theorem dX10_hard_31 : decode cX10_hard 31 = .ok (.getfield 35, 3) := dk_180 0 35 (dk_at dksX10_hard_1 8 rfl rfl)
theorem dX10_hard_34 : decode cX10_hard 34 = .ok (.iadd, 1) := dk_96 (dk_at dksX10_hard_1 11 rfl rfl)
theorem dX10_hard_35 : decode cX10_hard 35 = .ok (.istore_n 1, 1) := dk_60 (dk_at dksX10_hard_1 12 rfl rfl)
theorem dX10_hard_36 : decode cX10_hard 36 = .ok (.iinc 2 1, 3) := dk_132 2 1 (dk_at dksX10_hard_1 13 rfl rfl)
theorem dX10_hard_39 : decode cX10_hard 39 = .ok (.goto (-35), 3) := dk_167 255 221 (dk_at dksX10_hard_1 16 rfl rfl)
theorem dX10_hard_42 : decode cX10_hard 42 = .ok (.iload_n 1, 1) := dk_27 (dk_at dksX10_hard_1 19 rfl rfl)
theorem dX10_hard_43 : decode cX10_hard 43 = .ok (.ireturn, 1) := dk_172 (dk_at dksX10_hard_1 20 rfl rfl)
abbrev cX10_length : ByteArray := prog_18_method_6_code
def yX10_length : MethodName := ⟨RX10, "length", "()I"⟩
def dkwX10_length_1 : List UInt8 := [185, 0, 16, 2, 0, 192, 0, 22, 180, 0, 44, 96, 60, 132, 2, 1, 167, 255, 221, 27, 172]
abbrev dktX10_length_1 : List UInt8 := dkwX10_length_1 ++ []
def dkwX10_length_0 : List UInt8 := [3, 60, 3, 61, 28, 42, 180, 0, 10, 185, 0, 28, 1, 0, 162, 0, 28, 27, 42, 180, 0, 10, 28]
abbrev dktX10_length_0 : List UInt8 := dkwX10_length_0 ++ dktX10_length_1
theorem dksX10_length_0 : cX10_length.data.toList.drop 0 = dktX10_length_0 := by decide +kernel
theorem dksX10_length_1 : cX10_length.data.toList.drop 23 = dktX10_length_1 := dk_seg dksX10_length_0 23 rfl rfl
theorem dX10_length_0 : decode cX10_length 0 = .ok (.iconst 0, 1) := dk_3 (dk_at dksX10_length_0 0 rfl rfl)
theorem dX10_length_1 : decode cX10_length 1 = .ok (.istore_n 1, 1) := dk_60 (dk_at dksX10_length_0 1 rfl rfl)
theorem dX10_length_2 : decode cX10_length 2 = .ok (.iconst 0, 1) := dk_3 (dk_at dksX10_length_0 2 rfl rfl)
theorem dX10_length_3 : decode cX10_length 3 = .ok (.istore_n 2, 1) := dk_61 (dk_at dksX10_length_0 3 rfl rfl)
theorem dX10_length_4 : decode cX10_length 4 = .ok (.iload_n 2, 1) := dk_28 (dk_at dksX10_length_0 4 rfl rfl)
theorem dX10_length_5 : decode cX10_length 5 = .ok (.aload_n 0, 1) := dk_42 (dk_at dksX10_length_0 5 rfl rfl)
theorem dX10_length_6 : decode cX10_length 6 = .ok (.getfield 10, 3) := dk_180 0 10 (dk_at dksX10_length_0 6 rfl rfl)
theorem dX10_length_9 : decode cX10_length 9 = .ok (.invokeinterface 28 1, 5) := by decide +kernel
theorem dX10_length_14 : decode cX10_length 14 = .ok (.if_icmp .ge 28, 3) := dk_162 0 28 (dk_at dksX10_length_0 14 rfl rfl)
theorem dX10_length_17 : decode cX10_length 17 = .ok (.iload_n 1, 1) := dk_27 (dk_at dksX10_length_0 17 rfl rfl)
theorem dX10_length_18 : decode cX10_length 18 = .ok (.aload_n 0, 1) := dk_42 (dk_at dksX10_length_0 18 rfl rfl)
theorem dX10_length_19 : decode cX10_length 19 = .ok (.getfield 10, 3) := dk_180 0 10 (dk_at dksX10_length_0 19 rfl rfl)
theorem dX10_length_22 : decode cX10_length 22 = .ok (.iload_n 2, 1) := dk_28 (dk_at dksX10_length_0 22 rfl rfl)
theorem dX10_length_23 : decode cX10_length 23 = .ok (.invokeinterface 16 2, 5) := by decide +kernel
theorem dX10_length_28 : decode cX10_length 28 = .ok (.checkcast 22, 3) := dk_192 0 22 (dk_at dksX10_length_1 5 rfl rfl)
theorem dX10_length_31 : decode cX10_length 31 = .ok (.getfield 44, 3) := dk_180 0 44 (dk_at dksX10_length_1 8 rfl rfl)
theorem dX10_length_34 : decode cX10_length 34 = .ok (.iadd, 1) := dk_96 (dk_at dksX10_length_1 11 rfl rfl)
theorem dX10_length_35 : decode cX10_length 35 = .ok (.istore_n 1, 1) := dk_60 (dk_at dksX10_length_1 12 rfl rfl)
theorem dX10_length_36 : decode cX10_length 36 = .ok (.iinc 2 1, 3) := dk_132 2 1 (dk_at dksX10_length_1 13 rfl rfl)
theorem dX10_length_39 : decode cX10_length 39 = .ok (.goto (-35), 3) := dk_167 255 221 (dk_at dksX10_length_1 16 rfl rfl)
theorem dX10_length_42 : decode cX10_length 42 = .ok (.iload_n 1, 1) := dk_27 (dk_at dksX10_length_1 19 rfl rfl)
theorem dX10_length_43 : decode cX10_length 43 = .ok (.ireturn, 1) := dk_172 (dk_at dksX10_length_1 20 rfl rfl)
theorem q116 : (Jvm.Cond.initialized "ValleyGuides$Route") ∈ lw_all := lw_g (lw_at lw_m1 14 rfl) rfl
theorem q185 : (Jvm.Cond.fieldLink "ValleyGuides$Route" (24 : Nat) "ValleyGuides$Step" "from" "I") ∈ lw_all := lw_g (lw_at lw_m1 83 rfl) rfl
theorem q188 : (Jvm.Cond.fieldLink "ValleyGuides$Route" (32 : Nat) "ValleyGuides$Step" "to" "I") ∈ lw_all := lw_g (lw_at lw_m1 86 rfl) rfl
theorem q193 : (Jvm.Cond.fieldLink "ValleyGuides$Route" (44 : Nat) "ValleyGuides$Step" "length" "I") ∈ lw_all := lw_g (lw_at lw_m1 91 rfl) rfl
theorem q202 : (Jvm.Cond.fieldLink "ValleyGuides$Route" (35 : Nat) "ValleyGuides$Step" "hard" "I") ∈ lw_all := lw_g (lw_at lw_m1 100 rfl) rfl
theorem q300 : (Jvm.Cond.instantiable "ValleyGuides$Route" (1 : Nat)) ∈ lw_all := lw_g (lw_at lw_m1 198 rfl) rfl
theorem q302 : (Jvm.Cond.instanceMethod ({ cls := "ValleyGuides$Route", name := "<init>", desc := "()V" } : Jvm.MethodName)) ∈ lw_all := lw_g (lw_at lw_m1 200 rfl) rfl
theorem q303 : (Jvm.Cond.code ({ cls := "ValleyGuides$Route", name := "<init>", desc := "()V" } : Jvm.MethodName) prog_18_method_1_code (1 : Nat) (Option.none : Option Jvm.ClassFile.FieldType)) ∈ lw_all := lw_g (lw_at lw_m1 201 rfl) rfl
theorem q304 : (Jvm.Cond.methodLink "ValleyGuides$Route" (1 : Nat) ({ cls := "java/lang/Object", name := "<init>", desc := "()V" } : Jvm.MethodName)) ∈ lw_all := lw_g (lw_at lw_m1 202 rfl) rfl
theorem q305 : (Jvm.Cond.classLink "ValleyGuides$Route" (7 : Nat) "java/util/ArrayList") ∈ lw_all := lw_g (lw_at lw_m1 203 rfl) rfl
theorem q307 : (Jvm.Cond.methodLink "ValleyGuides$Route" (9 : Nat) ({ cls := "java/util/ArrayList", name := "<init>", desc := "()V" } : Jvm.MethodName)) ∈ lw_all := lw_g (lw_at lw_m1 205 rfl) rfl
theorem q331 : (Jvm.Cond.fieldLink "ValleyGuides$Route" (10 : Nat) "ValleyGuides$Route" "steps" "Ljava/util/List;") ∈ lw_all := lw_g (lw_at lw_m1 229 rfl) rfl
theorem q333 : (Jvm.Cond.laysFinal "ValleyGuides$Route" "ValleyGuides$Route" "steps" "Ljava/util/List;") ∈ lw_all := lw_g (lw_at lw_m1 231 rfl) rfl
theorem q334 : (Jvm.Cond.soleField "ValleyGuides$Route" "steps") ∈ lw_all := lw_g (lw_at lw_m1 232 rfl) rfl
theorem q335 : (Jvm.Cond.superclass "ValleyGuides$Route" "java/lang/Object") ∈ lw_all := lw_g (lw_at lw_m1 233 rfl) rfl
theorem q390 : (Jvm.Cond.selects "ValleyGuides$Route" ({ cls := "java/lang/Object", name := "getClass", desc := "()Ljava/lang/Class;" } : Jvm.MethodName) ({ cls := "java/lang/Object", name := "getClass", desc := "()Ljava/lang/Class;" } : Jvm.MethodName)) ∈ lw_all := lw_g (lw_at lw_m2 48 rfl) rfl
theorem q425 : (Jvm.Cond.instanceMethod ({ cls := "ValleyGuides$Route", name := "ends", desc := "()I" } : Jvm.MethodName)) ∈ lw_all := lw_g (lw_at lw_m2 83 rfl) rfl
theorem q426 : (Jvm.Cond.selects "ValleyGuides$Route" ({ cls := "ValleyGuides$Route", name := "ends", desc := "()I" } : Jvm.MethodName) ({ cls := "ValleyGuides$Route", name := "ends", desc := "()I" } : Jvm.MethodName)) ∈ lw_all := lw_g (lw_at lw_m2 84 rfl) rfl
theorem q427 : (Jvm.Cond.code ({ cls := "ValleyGuides$Route", name := "ends", desc := "()I" } : Jvm.MethodName) prog_18_method_3_code (1 : Nat) (Option.some Jvm.ClassFile.FieldType.int)) ∈ lw_all := lw_g (lw_at lw_m2 85 rfl) rfl
theorem q428 : (Jvm.Cond.interfaceEntry "ValleyGuides$Route" (28 : Nat)) ∈ lw_tbl := lw_at lw_m2 86 rfl
theorem q429 : (Jvm.Cond.methodLink "ValleyGuides$Route" (28 : Nat) ({ cls := "java/util/List", name := "size", desc := "()I" } : Jvm.MethodName)) ∈ lw_all := lw_g (lw_at lw_m2 87 rfl) rfl
theorem q437 : (Jvm.Cond.interfaceEntry "ValleyGuides$Route" (16 : Nat)) ∈ lw_tbl := lw_at lw_m2 95 rfl
theorem q438 : (Jvm.Cond.methodLink "ValleyGuides$Route" (16 : Nat) ({ cls := "java/util/List", name := "get", desc := "(I)Ljava/lang/Object;" } : Jvm.MethodName)) ∈ lw_all := lw_g (lw_at lw_m2 96 rfl) rfl
theorem q456 : (Jvm.Cond.classLink "ValleyGuides$Route" (22 : Nat) "ValleyGuides$Step") ∈ lw_all := lw_g (lw_at lw_m2 114 rfl) rfl
theorem q464 : (Jvm.Cond.instanceMethod ({ cls := "ValleyGuides$Route", name := "begins", desc := "()I" } : Jvm.MethodName)) ∈ lw_all := lw_g (lw_at lw_m2 122 rfl) rfl
theorem q465 : (Jvm.Cond.selects "ValleyGuides$Route" ({ cls := "ValleyGuides$Route", name := "begins", desc := "()I" } : Jvm.MethodName) ({ cls := "ValleyGuides$Route", name := "begins", desc := "()I" } : Jvm.MethodName)) ∈ lw_all := lw_g (lw_at lw_m2 123 rfl) rfl
theorem q466 : (Jvm.Cond.code ({ cls := "ValleyGuides$Route", name := "begins", desc := "()I" } : Jvm.MethodName) prog_18_method_2_code (1 : Nat) (Option.some Jvm.ClassFile.FieldType.int)) ∈ lw_all := lw_g (lw_at lw_m2 124 rfl) rfl
theorem q468 : (Jvm.Cond.instanceMethod ({ cls := "ValleyGuides$Route", name := "hardest", desc := "()I" } : Jvm.MethodName)) ∈ lw_all := lw_g (lw_at lw_m2 126 rfl) rfl
theorem q469 : (Jvm.Cond.selects "ValleyGuides$Route" ({ cls := "ValleyGuides$Route", name := "hardest", desc := "()I" } : Jvm.MethodName) ({ cls := "ValleyGuides$Route", name := "hardest", desc := "()I" } : Jvm.MethodName)) ∈ lw_all := lw_g (lw_at lw_m2 127 rfl) rfl
theorem q470 : (Jvm.Cond.code ({ cls := "ValleyGuides$Route", name := "hardest", desc := "()I" } : Jvm.MethodName) prog_18_method_4_code (3 : Nat) (Option.some Jvm.ClassFile.FieldType.int)) ∈ lw_all := lw_g (lw_at lw_m2 128 rfl) rfl
theorem q471 : (Jvm.Cond.methodLink "ValleyGuides$Route" (38 : Nat) ({ cls := "java/lang/Math", name := "max", desc := "(II)I" } : Jvm.MethodName)) ∈ lw_all := lw_g (lw_at lw_m2 129 rfl) rfl
theorem q473 : (Jvm.Cond.instanceMethod ({ cls := "ValleyGuides$Route", name := "hard", desc := "()I" } : Jvm.MethodName)) ∈ lw_all := lw_g (lw_at lw_m2 131 rfl) rfl
theorem q474 : (Jvm.Cond.selects "ValleyGuides$Route" ({ cls := "ValleyGuides$Route", name := "hard", desc := "()I" } : Jvm.MethodName) ({ cls := "ValleyGuides$Route", name := "hard", desc := "()I" } : Jvm.MethodName)) ∈ lw_all := lw_g (lw_at lw_m2 132 rfl) rfl
theorem q475 : (Jvm.Cond.code ({ cls := "ValleyGuides$Route", name := "hard", desc := "()I" } : Jvm.MethodName) prog_18_method_5_code (3 : Nat) (Option.some Jvm.ClassFile.FieldType.int)) ∈ lw_all := lw_g (lw_at lw_m2 133 rfl) rfl
theorem q477 : (Jvm.Cond.instanceMethod ({ cls := "ValleyGuides$Route", name := "length", desc := "()I" } : Jvm.MethodName)) ∈ lw_all := lw_g (lw_at lw_m2 135 rfl) rfl
theorem q478 : (Jvm.Cond.selects "ValleyGuides$Route" ({ cls := "ValleyGuides$Route", name := "length", desc := "()I" } : Jvm.MethodName) ({ cls := "ValleyGuides$Route", name := "length", desc := "()I" } : Jvm.MethodName)) ∈ lw_all := lw_g (lw_at lw_m2 136 rfl) rfl
theorem q479 : (Jvm.Cond.code ({ cls := "ValleyGuides$Route", name := "length", desc := "()I" } : Jvm.MethodName) prog_18_method_6_code (3 : Nat) (Option.some Jvm.ClassFile.FieldType.int)) ∈ lw_all := lw_g (lw_at lw_m2 137 rfl) rfl
theorem q1408 : (Jvm.Cond.selects "ValleyGuides$Route" ({ cls := "java/lang/Object", name := "equals", desc := "(Ljava/lang/Object;)Z" } : Jvm.MethodName) ({ cls := "java/lang/Object", name := "equals", desc := "(Ljava/lang/Object;)Z" } : Jvm.MethodName)) ∈ lw_all := lw_g (lw_at lw_m6 106 rfl) rfl
theorem q2421 : (Jvm.Cond.castable "ValleyGuides$Route" "java/lang/Object") ∈ lw_tbl := lw_at lw_m10 159 rfl
theorem in_X10 : ∀ w ∈ wsX100, w ∈ lw_all := lw_in wsX100 [333] (by decide +kernel) (by decide +kernel)
/-! ValleyGuides$Guide -/
set_option maxRecDepth 100000
def RX11 : String := "ValleyGuides$Guide"
def TX11 : u_T := fun k => match k with
  | 0 => ("ValleyGuides$Guide", "number", "I", true)
  | 1 => ("ValleyGuides$Guide", "grade", "I", true)
  | 2 => ("ValleyGuides$Guide", "strength", "I", true)
  | 3 => ("ValleyGuides$Guide", "papers", "I", false)
  | 4 => ("ValleyGuides$Guide", "isOut", "Z", false)
  | 5 => ("ValleyGuides$Guide", "had", "I", false)
  | _ => ("ValleyGuides$Guide", "given", "I", false)
def tyX11 : Nat → FieldType := fun k => match k with
  | 0 => .int
  | 1 => .int
  | 2 => .int
  | 3 => .int
  | 4 => .boolean
  | 5 => .int
  | _ => .int
abbrev wsX110 : List Cond := u_ws RX11 TX11 7
theorem nmX11 : ∀ a, a < 7 → ∀ b, b < 7 → a ≠ b → (TX11 a).2.1 ≠ (TX11 b).2.1 := by decide +kernel
theorem tyX11_ok : ∀ k, k < 7 → parseFieldDescriptor (TX11 k).2.2.1 = some (tyX11 k) := by decide +kernel
abbrev cX11_init : ByteArray := prog_5_method_1_code
def yX11_init : MethodName := ⟨RX11, "<init>", "(IIII)V"⟩
def dkwX11_init_1 : List UInt8 := [181, 0, 19, 177]
abbrev dktX11_init_1 : List UInt8 := dkwX11_init_1 ++ []
def dkwX11_init_0 : List UInt8 := [42, 183, 0, 1, 42, 27, 181, 0, 7, 42, 28, 181, 0, 13, 42, 29, 181, 0, 16, 42, 21, 4]
abbrev dktX11_init_0 : List UInt8 := dkwX11_init_0 ++ dktX11_init_1
theorem dksX11_init_0 : cX11_init.data.toList.drop 0 = dktX11_init_0 := by decide +kernel
theorem dksX11_init_1 : cX11_init.data.toList.drop 22 = dktX11_init_1 := dk_seg dksX11_init_0 22 rfl rfl
theorem dX11_init_0 : decode cX11_init 0 = .ok (.aload_n 0, 1) := dk_42 (dk_at dksX11_init_0 0 rfl rfl)
theorem dX11_init_1 : decode cX11_init 1 = .ok (.invokespecial 1, 3) := dk_183 0 1 (dk_at dksX11_init_0 1 rfl rfl)
theorem dX11_init_4 : decode cX11_init 4 = .ok (.aload_n 0, 1) := dk_42 (dk_at dksX11_init_0 4 rfl rfl)
theorem dX11_init_5 : decode cX11_init 5 = .ok (.iload_n 1, 1) := dk_27 (dk_at dksX11_init_0 5 rfl rfl)
theorem dX11_init_6 : decode cX11_init 6 = .ok (.putfield 7, 3) := dk_181 0 7 (dk_at dksX11_init_0 6 rfl rfl)
theorem dX11_init_9 : decode cX11_init 9 = .ok (.aload_n 0, 1) := dk_42 (dk_at dksX11_init_0 9 rfl rfl)
theorem dX11_init_10 : decode cX11_init 10 = .ok (.iload_n 2, 1) := dk_28 (dk_at dksX11_init_0 10 rfl rfl)
theorem dX11_init_11 : decode cX11_init 11 = .ok (.putfield 13, 3) := dk_181 0 13 (dk_at dksX11_init_0 11 rfl rfl)
theorem dX11_init_14 : decode cX11_init 14 = .ok (.aload_n 0, 1) := dk_42 (dk_at dksX11_init_0 14 rfl rfl)
theorem dX11_init_15 : decode cX11_init 15 = .ok (.iload_n 3, 1) := dk_29 (dk_at dksX11_init_0 15 rfl rfl)
theorem dX11_init_16 : decode cX11_init 16 = .ok (.putfield 16, 3) := dk_181 0 16 (dk_at dksX11_init_0 16 rfl rfl)
theorem dX11_init_19 : decode cX11_init 19 = .ok (.aload_n 0, 1) := dk_42 (dk_at dksX11_init_0 19 rfl rfl)
theorem dX11_init_20 : decode cX11_init 20 = .ok (.iload 4, 2) := dk_21 4 (dk_at dksX11_init_0 20 rfl rfl)
theorem dX11_init_22 : decode cX11_init 22 = .ok (.putfield 19, 3) := dk_181 0 19 (dk_at dksX11_init_1 0 rfl rfl)
theorem dX11_init_25 : decode cX11_init 25 = .ok (.return_, 1) := dk_177 (dk_at dksX11_init_1 3 rfl rfl)
theorem q134 : (Jvm.Cond.initialized "ValleyGuides$Guide") ∈ lw_all := lw_g (lw_at lw_m1 32 rfl) rfl
theorem q378 : (Jvm.Cond.selects "ValleyGuides$Guide" ({ cls := "java/lang/Object", name := "getClass", desc := "()Ljava/lang/Class;" } : Jvm.MethodName) ({ cls := "java/lang/Object", name := "getClass", desc := "()Ljava/lang/Class;" } : Jvm.MethodName)) ∈ lw_all := lw_g (lw_at lw_m2 36 rfl) rfl
theorem q1332 : (Jvm.Cond.instantiable "ValleyGuides$Guide" (7 : Nat)) ∈ lw_all := lw_g (lw_at lw_m6 30 rfl) rfl
theorem q1334 : (Jvm.Cond.instanceMethod ({ cls := "ValleyGuides$Guide", name := "<init>", desc := "(IIII)V" } : Jvm.MethodName)) ∈ lw_all := lw_g (lw_at lw_m6 32 rfl) rfl
theorem q1335 : (Jvm.Cond.code ({ cls := "ValleyGuides$Guide", name := "<init>", desc := "(IIII)V" } : Jvm.MethodName) prog_5_method_1_code (5 : Nat) (Option.none : Option Jvm.ClassFile.FieldType)) ∈ lw_all := lw_g (lw_at lw_m6 33 rfl) rfl
theorem q1336 : (Jvm.Cond.methodLink "ValleyGuides$Guide" (1 : Nat) ({ cls := "java/lang/Object", name := "<init>", desc := "()V" } : Jvm.MethodName)) ∈ lw_all := lw_g (lw_at lw_m6 34 rfl) rfl
theorem q1337 : (Jvm.Cond.fieldLink "ValleyGuides$Guide" (7 : Nat) "ValleyGuides$Guide" "number" "I") ∈ lw_all := lw_g (lw_at lw_m6 35 rfl) rfl
theorem q1339 : (Jvm.Cond.fieldLink "ValleyGuides$Guide" (13 : Nat) "ValleyGuides$Guide" "grade" "I") ∈ lw_all := lw_g (lw_at lw_m6 37 rfl) rfl
theorem q1341 : (Jvm.Cond.fieldLink "ValleyGuides$Guide" (16 : Nat) "ValleyGuides$Guide" "strength" "I") ∈ lw_all := lw_g (lw_at lw_m6 39 rfl) rfl
theorem q1343 : (Jvm.Cond.fieldLink "ValleyGuides$Guide" (19 : Nat) "ValleyGuides$Guide" "papers" "I") ∈ lw_all := lw_g (lw_at lw_m6 41 rfl) rfl
theorem q1348 : (Jvm.Cond.laysFinal "ValleyGuides$Guide" "ValleyGuides$Guide" "number" "I") ∈ lw_all := lw_g (lw_at lw_m6 46 rfl) rfl
theorem q1349 : (Jvm.Cond.soleField "ValleyGuides$Guide" "number") ∈ lw_all := lw_g (lw_at lw_m6 47 rfl) rfl
theorem q1350 : (Jvm.Cond.laysFinal "ValleyGuides$Guide" "ValleyGuides$Guide" "grade" "I") ∈ lw_all := lw_g (lw_at lw_m6 48 rfl) rfl
theorem q1351 : (Jvm.Cond.soleField "ValleyGuides$Guide" "grade") ∈ lw_all := lw_g (lw_at lw_m6 49 rfl) rfl
theorem q1352 : (Jvm.Cond.laysFinal "ValleyGuides$Guide" "ValleyGuides$Guide" "strength" "I") ∈ lw_all := lw_g (lw_at lw_m6 50 rfl) rfl
theorem q1353 : (Jvm.Cond.soleField "ValleyGuides$Guide" "strength") ∈ lw_all := lw_g (lw_at lw_m6 51 rfl) rfl
theorem q1354 : (Jvm.Cond.lays "ValleyGuides$Guide" "ValleyGuides$Guide" "papers" "I") ∈ lw_all := lw_g (lw_at lw_m6 52 rfl) rfl
theorem q1355 : (Jvm.Cond.soleField "ValleyGuides$Guide" "papers") ∈ lw_all := lw_g (lw_at lw_m6 53 rfl) rfl
theorem q1356 : (Jvm.Cond.lays "ValleyGuides$Guide" "ValleyGuides$Guide" "isOut" "Z") ∈ lw_all := lw_g (lw_at lw_m6 54 rfl) rfl
theorem q1357 : (Jvm.Cond.soleField "ValleyGuides$Guide" "isOut") ∈ lw_all := lw_g (lw_at lw_m6 55 rfl) rfl
theorem q1358 : (Jvm.Cond.lays "ValleyGuides$Guide" "ValleyGuides$Guide" "had" "I") ∈ lw_all := lw_g (lw_at lw_m6 56 rfl) rfl
theorem q1359 : (Jvm.Cond.soleField "ValleyGuides$Guide" "had") ∈ lw_all := lw_g (lw_at lw_m6 57 rfl) rfl
theorem q1360 : (Jvm.Cond.lays "ValleyGuides$Guide" "ValleyGuides$Guide" "given" "I") ∈ lw_all := lw_g (lw_at lw_m6 58 rfl) rfl
theorem q1361 : (Jvm.Cond.soleField "ValleyGuides$Guide" "given") ∈ lw_all := lw_g (lw_at lw_m6 59 rfl) rfl
theorem q1362 : (Jvm.Cond.superclass "ValleyGuides$Guide" "java/lang/Object") ∈ lw_all := lw_g (lw_at lw_m6 60 rfl) rfl
theorem q1396 : (Jvm.Cond.selects "ValleyGuides$Guide" ({ cls := "java/lang/Object", name := "equals", desc := "(Ljava/lang/Object;)Z" } : Jvm.MethodName) ({ cls := "java/lang/Object", name := "equals", desc := "(Ljava/lang/Object;)Z" } : Jvm.MethodName)) ∈ lw_all := lw_g (lw_at lw_m6 94 rfl) rfl
theorem q2423 : (Jvm.Cond.castable "ValleyGuides$Guide" "java/lang/Object") ∈ lw_tbl := lw_at lw_m10 161 rfl
theorem in_X11 : ∀ w ∈ wsX110, w ∈ lw_all := lw_in wsX110 [1348, 1350, 1352, 1354, 1356, 1358, 1360] (by decide +kernel) (by decide +kernel)
/-! ValleyGuides$Reader -/
set_option maxRecDepth 100000
def RX12 : String := "ValleyGuides$Reader"
def TX12 : u_T := fun k => match k with
  | 0 => ("ValleyGuides$Reader", "t", "[B", true)
  | 1 => ("ValleyGuides$Reader", "from", "I", false)
  | 2 => ("ValleyGuides$Reader", "to", "I", false)
  | 3 => ("ValleyGuides$Reader", "kind", "I", false)
  | 4 => ("ValleyGuides$Reader", "value", "I", false)
  | _ => ("ValleyGuides$Reader", "open", "I", false)
def tyX12 : Nat → FieldType := fun k => match k with
  | 0 => .array .byte
  | 1 => .int
  | 2 => .int
  | 3 => .int
  | 4 => .int
  | _ => .int
abbrev wsX120 : List Cond := u_ws RX12 TX12 6
theorem nmX12 : ∀ a, a < 6 → ∀ b, b < 6 → a ≠ b → (TX12 a).2.1 ≠ (TX12 b).2.1 := by decide +kernel
theorem tyX12_ok : ∀ k, k < 6 → parseFieldDescriptor (TX12 k).2.2.1 = some (tyX12 k) := by decide +kernel
abbrev cX12_init : ByteArray := prog_13_method_1_code
def yX12_init : MethodName := ⟨RX12, "<init>", "([B)V"⟩
def dkwX12_init_0 : List UInt8 := [42, 183, 0, 3, 42, 43, 181, 0, 9, 42, 182, 0, 15, 177]
abbrev dktX12_init_0 : List UInt8 := dkwX12_init_0 ++ []
theorem dksX12_init_0 : cX12_init.data.toList.drop 0 = dktX12_init_0 := by decide +kernel
theorem dX12_init_0 : decode cX12_init 0 = .ok (.aload_n 0, 1) := dk_42 (dk_at dksX12_init_0 0 rfl rfl)
theorem dX12_init_1 : decode cX12_init 1 = .ok (.invokespecial 3, 3) := dk_183 0 3 (dk_at dksX12_init_0 1 rfl rfl)
theorem dX12_init_4 : decode cX12_init 4 = .ok (.aload_n 0, 1) := dk_42 (dk_at dksX12_init_0 4 rfl rfl)
theorem dX12_init_5 : decode cX12_init 5 = .ok (.aload_n 1, 1) := dk_43 (dk_at dksX12_init_0 5 rfl rfl)
theorem dX12_init_6 : decode cX12_init 6 = .ok (.putfield 9, 3) := dk_181 0 9 (dk_at dksX12_init_0 6 rfl rfl)
theorem dX12_init_9 : decode cX12_init 9 = .ok (.aload_n 0, 1) := dk_42 (dk_at dksX12_init_0 9 rfl rfl)
theorem dX12_init_10 : decode cX12_init 10 = .ok (.invokevirtual 15, 3) := dk_182 0 15 (dk_at dksX12_init_0 10 rfl rfl)
theorem dX12_init_13 : decode cX12_init 13 = .ok (.return_, 1) := dk_177 (dk_at dksX12_init_0 13 rfl rfl)
abbrev cX12_next : ByteArray := prog_13_method_5_code
def yX12_next : MethodName := ⟨RX12, "next", "()V"⟩
def dkwX12_next_17 : List UInt8 := [181, 0, 47, 42, 27, 181, 0, 44, 177]
abbrev dktX12_next_17 : List UInt8 := dkwX12_next_17 ++ []
def dkwX12_next_16 : List UInt8 := [16, 61, 159, 0, 9, 27, 16, 59, 160, 0, 7, 4, 167, 0, 4, 3, 4, 182, 0, 66, 42, 6]
abbrev dktX12_next_16 : List UInt8 := dkwX12_next_16 ++ dktX12_next_17
def dkwX12_next_15 : List UInt8 := [16, 45, 159, 0, 33, 27, 16, 42, 159, 0, 27, 27, 16, 60, 159, 0, 21, 27, 16, 62, 159, 0, 15, 27]
abbrev dktX12_next_15 : List UInt8 := dkwX12_next_15 ++ dktX12_next_16
def dkwX12_next_14 : List UInt8 := [167, 0, 77, 42, 27, 16, 40, 159, 0, 51, 27, 16, 41, 159, 0, 45, 27, 16, 43, 159, 0, 39, 27]
abbrev dktX12_next_14 : List UInt8 := dkwX12_next_14 ++ dktX12_next_15
def dkwX12_next_13 : List UInt8 := [42, 180, 0, 20, 100, 7, 163, 0, 7, 4, 167, 0, 4, 3, 4, 182, 0, 66, 42, 5, 181, 0, 47]
abbrev dktX12_next_13 : List UInt8 := dkwX12_next_13 ++ dktX12_next_14
def dkwX12_next_12 : List UInt8 := [180, 0, 44, 181, 0, 44, 42, 89, 180, 0, 33, 4, 96, 181, 0, 33, 167, 255, 182, 42, 42, 180, 0, 33]
abbrev dktX12_next_12 : List UInt8 := dkwX12_next_12 ++ dktX12_next_13
def dkwX12_next_11 : List UInt8 := [16, 10, 42, 180, 0, 44, 104, 42, 42, 180, 0, 33, 182, 0, 40, 96, 16, 48, 100, 167, 0, 7, 42]
abbrev dktX12_next_11 : List UInt8 := dkwX12_next_11 ++ dktX12_next_12
def dkwX12_next_10 : List UInt8 := [20, 0, 72, 184, 0, 54, 153, 0, 59, 42, 42, 180, 0, 33, 42, 180, 0, 20, 100, 7, 162, 0, 25]
abbrev dktX12_next_10 : List UInt8 := dkwX12_next_10 ++ dktX12_next_11
def dkwX12_next_9 : List UInt8 := [153, 0, 119, 42, 42, 180, 0, 20, 181, 0, 33, 42, 42, 180, 0, 33, 182, 0, 40, 133, 20, 0, 70]
abbrev dktX12_next_9 : List UInt8 := dkwX12_next_9 ++ dktX12_next_10
def dkwX12_next_8 : List UInt8 := [167, 0, 4, 3, 4, 182, 0, 66, 167, 0, 207, 27, 133, 20, 0, 70, 20, 0, 72, 184, 0, 54]
abbrev dktX12_next_8 : List UInt8 := dkwX12_next_8 ++ dktX12_next_9
def dkwX12_next_7 : List UInt8 := [180, 0, 44, 4, 96, 181, 0, 44, 167, 255, 220, 42, 42, 180, 0, 44, 178, 0, 58, 190, 162, 0, 7, 4]
abbrev dktX12_next_7 : List UInt8 := dkwX12_next_7 ++ dktX12_next_8
def dkwX12_next_6 : List UInt8 := [178, 0, 58, 190, 162, 0, 31, 42, 178, 0, 58, 42, 180, 0, 44, 50, 182, 0, 62, 154, 0, 16, 42, 89]
abbrev dktX12_next_6 : List UInt8 := dkwX12_next_6 ++ dktX12_next_7
def dkwX12_next_5 : List UInt8 := [42, 89, 180, 0, 33, 4, 96, 181, 0, 33, 167, 255, 225, 42, 4, 181, 0, 47, 42, 180, 0, 44]
abbrev dktX12_next_5 : List UInt8 := dkwX12_next_5 ++ dktX12_next_6
def dkwX12_next_4 : List UInt8 := [153, 0, 105, 42, 42, 180, 0, 33, 182, 0, 40, 133, 20, 0, 50, 20, 0, 52, 184, 0, 54, 153, 0, 16]
abbrev dktX12_next_4 : List UInt8 := dkwX12_next_4 ++ dktX12_next_5
def dkwX12_next_3 : List UInt8 := [181, 0, 33, 42, 3, 181, 0, 47, 167, 1, 67, 27, 133, 20, 0, 50, 20, 0, 52, 184, 0, 54]
abbrev dktX12_next_3 : List UInt8 := dkwX12_next_3 ++ dktX12_next_4
def dkwX12_next_2 : List UInt8 := [180, 0, 20, 4, 96, 181, 0, 33, 42, 3, 181, 0, 44, 27, 16, 252, 160, 0, 19, 42, 42, 180, 0, 20]
abbrev dktX12_next_2 : List UInt8 := dkwX12_next_2 ++ dktX12_next_3
def dkwX12_next_1 : List UInt8 := [180, 0, 20, 4, 96, 181, 0, 20, 167, 255, 233, 42, 42, 180, 0, 20, 182, 0, 40, 60, 42, 42]
abbrev dktX12_next_1 : List UInt8 := dkwX12_next_1 ++ dktX12_next_2
def dkwX12_next_0 : List UInt8 := [42, 42, 180, 0, 33, 181, 0, 20, 42, 42, 180, 0, 20, 182, 0, 40, 16, 32, 160, 0, 16, 42, 89]
abbrev dktX12_next_0 : List UInt8 := dkwX12_next_0 ++ dktX12_next_1
theorem dksX12_next_0 : cX12_next.data.toList.drop 0 = dktX12_next_0 := by decide +kernel
theorem dksX12_next_1 : cX12_next.data.toList.drop 23 = dktX12_next_1 := dk_seg dksX12_next_0 23 rfl rfl
theorem dksX12_next_2 : cX12_next.data.toList.drop 45 = dktX12_next_2 := dk_seg dksX12_next_1 22 rfl rfl
theorem dksX12_next_3 : cX12_next.data.toList.drop 69 = dktX12_next_3 := dk_seg dksX12_next_2 24 rfl rfl
theorem dksX12_next_4 : cX12_next.data.toList.drop 91 = dktX12_next_4 := dk_seg dksX12_next_3 22 rfl rfl
theorem dksX12_next_5 : cX12_next.data.toList.drop 115 = dktX12_next_5 := dk_seg dksX12_next_4 24 rfl rfl
theorem dksX12_next_6 : cX12_next.data.toList.drop 137 = dktX12_next_6 := dk_seg dksX12_next_5 22 rfl rfl
theorem dksX12_next_7 : cX12_next.data.toList.drop 161 = dktX12_next_7 := dk_seg dksX12_next_6 24 rfl rfl
theorem dksX12_next_8 : cX12_next.data.toList.drop 185 = dktX12_next_8 := dk_seg dksX12_next_7 24 rfl rfl
theorem dksX12_next_9 : cX12_next.data.toList.drop 207 = dktX12_next_9 := dk_seg dksX12_next_8 22 rfl rfl
theorem dksX12_next_10 : cX12_next.data.toList.drop 230 = dktX12_next_10 := dk_seg dksX12_next_9 23 rfl rfl
theorem dksX12_next_11 : cX12_next.data.toList.drop 253 = dktX12_next_11 := dk_seg dksX12_next_10 23 rfl rfl
theorem dksX12_next_12 : cX12_next.data.toList.drop 276 = dktX12_next_12 := dk_seg dksX12_next_11 23 rfl rfl
theorem dksX12_next_13 : cX12_next.data.toList.drop 300 = dktX12_next_13 := dk_seg dksX12_next_12 24 rfl rfl
theorem dksX12_next_14 : cX12_next.data.toList.drop 323 = dktX12_next_14 := dk_seg dksX12_next_13 23 rfl rfl
theorem dksX12_next_15 : cX12_next.data.toList.drop 346 = dktX12_next_15 := dk_seg dksX12_next_14 23 rfl rfl
theorem dksX12_next_16 : cX12_next.data.toList.drop 370 = dktX12_next_16 := dk_seg dksX12_next_15 24 rfl rfl
theorem dksX12_next_17 : cX12_next.data.toList.drop 392 = dktX12_next_17 := dk_seg dksX12_next_16 22 rfl rfl
theorem dX12_next_0 : decode cX12_next 0 = .ok (.aload_n 0, 1) := dk_42 (dk_at dksX12_next_0 0 rfl rfl)
theorem dX12_next_1 : decode cX12_next 1 = .ok (.aload_n 0, 1) := dk_42 (dk_at dksX12_next_0 1 rfl rfl)
theorem dX12_next_2 : decode cX12_next 2 = .ok (.getfield 33, 3) := dk_180 0 33 (dk_at dksX12_next_0 2 rfl rfl)
theorem dX12_next_5 : decode cX12_next 5 = .ok (.putfield 20, 3) := dk_181 0 20 (dk_at dksX12_next_0 5 rfl rfl)
theorem dX12_next_8 : decode cX12_next 8 = .ok (.aload_n 0, 1) := dk_42 (dk_at dksX12_next_0 8 rfl rfl)
theorem dX12_next_9 : decode cX12_next 9 = .ok (.aload_n 0, 1) := dk_42 (dk_at dksX12_next_0 9 rfl rfl)
theorem dX12_next_10 : decode cX12_next 10 = .ok (.getfield 20, 3) := dk_180 0 20 (dk_at dksX12_next_0 10 rfl rfl)
theorem dX12_next_13 : decode cX12_next 13 = .ok (.invokevirtual 40, 3) := dk_182 0 40 (dk_at dksX12_next_0 13 rfl rfl)
theorem dX12_next_16 : decode cX12_next 16 = .ok (.bipush 32, 2) := dk_16 32 (dk_at dksX12_next_0 16 rfl rfl)
theorem dX12_next_18 : decode cX12_next 18 = .ok (.if_icmp .ne 16, 3) := dk_160 0 16 (dk_at dksX12_next_0 18 rfl rfl)
theorem dX12_next_21 : decode cX12_next 21 = .ok (.aload_n 0, 1) := dk_42 (dk_at dksX12_next_0 21 rfl rfl)
theorem dX12_next_22 : decode cX12_next 22 = .ok (.dup, 1) := dk_89 (dk_at dksX12_next_0 22 rfl rfl)
theorem dX12_next_23 : decode cX12_next 23 = .ok (.getfield 20, 3) := dk_180 0 20 (dk_at dksX12_next_1 0 rfl rfl)
theorem dX12_next_26 : decode cX12_next 26 = .ok (.iconst 1, 1) := dk_4 (dk_at dksX12_next_1 3 rfl rfl)
theorem dX12_next_27 : decode cX12_next 27 = .ok (.iadd, 1) := dk_96 (dk_at dksX12_next_1 4 rfl rfl)
theorem dX12_next_28 : decode cX12_next 28 = .ok (.putfield 20, 3) := dk_181 0 20 (dk_at dksX12_next_1 5 rfl rfl)
theorem dX12_next_31 : decode cX12_next 31 = .ok (.goto (-23), 3) := dk_167 255 233 (dk_at dksX12_next_1 8 rfl rfl)
theorem dX12_next_34 : decode cX12_next 34 = .ok (.aload_n 0, 1) := dk_42 (dk_at dksX12_next_1 11 rfl rfl)
theorem dX12_next_35 : decode cX12_next 35 = .ok (.aload_n 0, 1) := dk_42 (dk_at dksX12_next_1 12 rfl rfl)
theorem dX12_next_36 : decode cX12_next 36 = .ok (.getfield 20, 3) := dk_180 0 20 (dk_at dksX12_next_1 13 rfl rfl)
theorem dX12_next_39 : decode cX12_next 39 = .ok (.invokevirtual 40, 3) := dk_182 0 40 (dk_at dksX12_next_1 16 rfl rfl)
theorem dX12_next_42 : decode cX12_next 42 = .ok (.istore_n 1, 1) := dk_60 (dk_at dksX12_next_1 19 rfl rfl)
theorem dX12_next_43 : decode cX12_next 43 = .ok (.aload_n 0, 1) := dk_42 (dk_at dksX12_next_1 20 rfl rfl)
theorem dX12_next_44 : decode cX12_next 44 = .ok (.aload_n 0, 1) := dk_42 (dk_at dksX12_next_1 21 rfl rfl)
theorem dX12_next_45 : decode cX12_next 45 = .ok (.getfield 20, 3) := dk_180 0 20 (dk_at dksX12_next_2 0 rfl rfl)
theorem dX12_next_48 : decode cX12_next 48 = .ok (.iconst 1, 1) := dk_4 (dk_at dksX12_next_2 3 rfl rfl)
theorem dX12_next_49 : decode cX12_next 49 = .ok (.iadd, 1) := dk_96 (dk_at dksX12_next_2 4 rfl rfl)
theorem dX12_next_50 : decode cX12_next 50 = .ok (.putfield 33, 3) := dk_181 0 33 (dk_at dksX12_next_2 5 rfl rfl)
theorem dX12_next_53 : decode cX12_next 53 = .ok (.aload_n 0, 1) := dk_42 (dk_at dksX12_next_2 8 rfl rfl)
theorem dX12_next_54 : decode cX12_next 54 = .ok (.iconst 0, 1) := dk_3 (dk_at dksX12_next_2 9 rfl rfl)
theorem dX12_next_55 : decode cX12_next 55 = .ok (.putfield 44, 3) := dk_181 0 44 (dk_at dksX12_next_2 10 rfl rfl)
theorem dX12_next_58 : decode cX12_next 58 = .ok (.iload_n 1, 1) := dk_27 (dk_at dksX12_next_2 13 rfl rfl)
theorem dX12_next_59 : decode cX12_next 59 = .ok (.bipush (-4), 2) := dk_16 252 (dk_at dksX12_next_2 14 rfl rfl)
theorem dX12_next_61 : decode cX12_next 61 = .ok (.if_icmp .ne 19, 3) := dk_160 0 19 (dk_at dksX12_next_2 16 rfl rfl)
theorem dX12_next_64 : decode cX12_next 64 = .ok (.aload_n 0, 1) := dk_42 (dk_at dksX12_next_2 19 rfl rfl)
theorem dX12_next_65 : decode cX12_next 65 = .ok (.aload_n 0, 1) := dk_42 (dk_at dksX12_next_2 20 rfl rfl)
theorem dX12_next_66 : decode cX12_next 66 = .ok (.getfield 20, 3) := dk_180 0 20 (dk_at dksX12_next_2 21 rfl rfl)
theorem dX12_next_69 : decode cX12_next 69 = .ok (.putfield 33, 3) := dk_181 0 33 (dk_at dksX12_next_3 0 rfl rfl)
theorem dX12_next_72 : decode cX12_next 72 = .ok (.aload_n 0, 1) := dk_42 (dk_at dksX12_next_3 3 rfl rfl)
theorem dX12_next_73 : decode cX12_next 73 = .ok (.iconst 0, 1) := dk_3 (dk_at dksX12_next_3 4 rfl rfl)
theorem dX12_next_74 : decode cX12_next 74 = .ok (.putfield 47, 3) := dk_181 0 47 (dk_at dksX12_next_3 5 rfl rfl)
theorem dX12_next_77 : decode cX12_next 77 = .ok (.goto 323, 3) := dk_167 1 67 (dk_at dksX12_next_3 8 rfl rfl)
theorem dX12_next_80 : decode cX12_next 80 = .ok (.iload_n 1, 1) := dk_27 (dk_at dksX12_next_3 11 rfl rfl)
theorem dX12_next_81 : decode cX12_next 81 = .ok (.i2l, 1) := dk_133 (dk_at dksX12_next_3 12 rfl rfl)
theorem dX12_next_82 : decode cX12_next 82 = .ok (.ldc2_w 50, 3) := dk_20 0 50 (dk_at dksX12_next_3 13 rfl rfl)
theorem dX12_next_85 : decode cX12_next 85 = .ok (.ldc2_w 52, 3) := dk_20 0 52 (dk_at dksX12_next_3 16 rfl rfl)
theorem dX12_next_88 : decode cX12_next 88 = .ok (.invokestatic 54, 3) := dk_184 0 54 (dk_at dksX12_next_3 19 rfl rfl)
theorem dX12_next_91 : decode cX12_next 91 = .ok (.ifCond .eq 105, 3) := dk_153 0 105 (dk_at dksX12_next_4 0 rfl rfl)
theorem dX12_next_94 : decode cX12_next 94 = .ok (.aload_n 0, 1) := dk_42 (dk_at dksX12_next_4 3 rfl rfl)
theorem dX12_next_95 : decode cX12_next 95 = .ok (.aload_n 0, 1) := dk_42 (dk_at dksX12_next_4 4 rfl rfl)
theorem dX12_next_96 : decode cX12_next 96 = .ok (.getfield 33, 3) := dk_180 0 33 (dk_at dksX12_next_4 5 rfl rfl)
theorem dX12_next_99 : decode cX12_next 99 = .ok (.invokevirtual 40, 3) := dk_182 0 40 (dk_at dksX12_next_4 8 rfl rfl)
theorem dX12_next_102 : decode cX12_next 102 = .ok (.i2l, 1) := dk_133 (dk_at dksX12_next_4 11 rfl rfl)
theorem dX12_next_103 : decode cX12_next 103 = .ok (.ldc2_w 50, 3) := dk_20 0 50 (dk_at dksX12_next_4 12 rfl rfl)
theorem dX12_next_106 : decode cX12_next 106 = .ok (.ldc2_w 52, 3) := dk_20 0 52 (dk_at dksX12_next_4 15 rfl rfl)
theorem dX12_next_109 : decode cX12_next 109 = .ok (.invokestatic 54, 3) := dk_184 0 54 (dk_at dksX12_next_4 18 rfl rfl)
theorem dX12_next_112 : decode cX12_next 112 = .ok (.ifCond .eq 16, 3) := dk_153 0 16 (dk_at dksX12_next_4 21 rfl rfl)
theorem dX12_next_115 : decode cX12_next 115 = .ok (.aload_n 0, 1) := dk_42 (dk_at dksX12_next_5 0 rfl rfl)
theorem dX12_next_116 : decode cX12_next 116 = .ok (.dup, 1) := dk_89 (dk_at dksX12_next_5 1 rfl rfl)
theorem dX12_next_117 : decode cX12_next 117 = .ok (.getfield 33, 3) := dk_180 0 33 (dk_at dksX12_next_5 2 rfl rfl)
theorem dX12_next_120 : decode cX12_next 120 = .ok (.iconst 1, 1) := dk_4 (dk_at dksX12_next_5 5 rfl rfl)
theorem dX12_next_121 : decode cX12_next 121 = .ok (.iadd, 1) := dk_96 (dk_at dksX12_next_5 6 rfl rfl)
theorem dX12_next_122 : decode cX12_next 122 = .ok (.putfield 33, 3) := dk_181 0 33 (dk_at dksX12_next_5 7 rfl rfl)
theorem dX12_next_125 : decode cX12_next 125 = .ok (.goto (-31), 3) := dk_167 255 225 (dk_at dksX12_next_5 10 rfl rfl)
theorem dX12_next_128 : decode cX12_next 128 = .ok (.aload_n 0, 1) := dk_42 (dk_at dksX12_next_5 13 rfl rfl)
theorem dX12_next_129 : decode cX12_next 129 = .ok (.iconst 1, 1) := dk_4 (dk_at dksX12_next_5 14 rfl rfl)
theorem dX12_next_130 : decode cX12_next 130 = .ok (.putfield 47, 3) := dk_181 0 47 (dk_at dksX12_next_5 15 rfl rfl)
theorem dX12_next_133 : decode cX12_next 133 = .ok (.aload_n 0, 1) := dk_42 (dk_at dksX12_next_5 18 rfl rfl)
theorem dX12_next_134 : decode cX12_next 134 = .ok (.getfield 44, 3) := dk_180 0 44 (dk_at dksX12_next_5 19 rfl rfl)
theorem dX12_next_137 : decode cX12_next 137 = .ok (.getstatic 58, 3) := dk_178 0 58 (dk_at dksX12_next_6 0 rfl rfl)
theorem dX12_next_140 : decode cX12_next 140 = .ok (.arraylength, 1) := dk_190 (dk_at dksX12_next_6 3 rfl rfl)
theorem dX12_next_141 : decode cX12_next 141 = .ok (.if_icmp .ge 31, 3) := dk_162 0 31 (dk_at dksX12_next_6 4 rfl rfl)
theorem dX12_next_144 : decode cX12_next 144 = .ok (.aload_n 0, 1) := dk_42 (dk_at dksX12_next_6 7 rfl rfl)
theorem dX12_next_145 : decode cX12_next 145 = .ok (.getstatic 58, 3) := dk_178 0 58 (dk_at dksX12_next_6 8 rfl rfl)
theorem dX12_next_148 : decode cX12_next 148 = .ok (.aload_n 0, 1) := dk_42 (dk_at dksX12_next_6 11 rfl rfl)
theorem dX12_next_149 : decode cX12_next 149 = .ok (.getfield 44, 3) := dk_180 0 44 (dk_at dksX12_next_6 12 rfl rfl)
theorem dX12_next_152 : decode cX12_next 152 = .ok (.aaload, 1) := dk_50 (dk_at dksX12_next_6 15 rfl rfl)
theorem dX12_next_153 : decode cX12_next 153 = .ok (.invokevirtual 62, 3) := dk_182 0 62 (dk_at dksX12_next_6 16 rfl rfl)
theorem dX12_next_156 : decode cX12_next 156 = .ok (.ifCond .ne 16, 3) := dk_154 0 16 (dk_at dksX12_next_6 19 rfl rfl)
theorem dX12_next_159 : decode cX12_next 159 = .ok (.aload_n 0, 1) := dk_42 (dk_at dksX12_next_6 22 rfl rfl)
theorem dX12_next_160 : decode cX12_next 160 = .ok (.dup, 1) := dk_89 (dk_at dksX12_next_6 23 rfl rfl)
theorem dX12_next_161 : decode cX12_next 161 = .ok (.getfield 44, 3) := dk_180 0 44 (dk_at dksX12_next_7 0 rfl rfl)
theorem dX12_next_164 : decode cX12_next 164 = .ok (.iconst 1, 1) := dk_4 (dk_at dksX12_next_7 3 rfl rfl)
theorem dX12_next_165 : decode cX12_next 165 = .ok (.iadd, 1) := dk_96 (dk_at dksX12_next_7 4 rfl rfl)
theorem dX12_next_166 : decode cX12_next 166 = .ok (.putfield 44, 3) := dk_181 0 44 (dk_at dksX12_next_7 5 rfl rfl)
theorem dX12_next_169 : decode cX12_next 169 = .ok (.goto (-36), 3) := dk_167 255 220 (dk_at dksX12_next_7 8 rfl rfl)
theorem dX12_next_172 : decode cX12_next 172 = .ok (.aload_n 0, 1) := dk_42 (dk_at dksX12_next_7 11 rfl rfl)
theorem dX12_next_173 : decode cX12_next 173 = .ok (.aload_n 0, 1) := dk_42 (dk_at dksX12_next_7 12 rfl rfl)
theorem dX12_next_174 : decode cX12_next 174 = .ok (.getfield 44, 3) := dk_180 0 44 (dk_at dksX12_next_7 13 rfl rfl)
theorem dX12_next_177 : decode cX12_next 177 = .ok (.getstatic 58, 3) := dk_178 0 58 (dk_at dksX12_next_7 16 rfl rfl)
theorem dX12_next_180 : decode cX12_next 180 = .ok (.arraylength, 1) := dk_190 (dk_at dksX12_next_7 19 rfl rfl)
theorem dX12_next_181 : decode cX12_next 181 = .ok (.if_icmp .ge 7, 3) := dk_162 0 7 (dk_at dksX12_next_7 20 rfl rfl)
theorem dX12_next_184 : decode cX12_next 184 = .ok (.iconst 1, 1) := dk_4 (dk_at dksX12_next_7 23 rfl rfl)
theorem dX12_next_185 : decode cX12_next 185 = .ok (.goto 4, 3) := dk_167 0 4 (dk_at dksX12_next_8 0 rfl rfl)
theorem dX12_next_188 : decode cX12_next 188 = .ok (.iconst 0, 1) := dk_3 (dk_at dksX12_next_8 3 rfl rfl)
theorem dX12_next_189 : decode cX12_next 189 = .ok (.iconst 1, 1) := dk_4 (dk_at dksX12_next_8 4 rfl rfl)
theorem dX12_next_190 : decode cX12_next 190 = .ok (.invokevirtual 66, 3) := dk_182 0 66 (dk_at dksX12_next_8 5 rfl rfl)
theorem dX12_next_193 : decode cX12_next 193 = .ok (.goto 207, 3) := dk_167 0 207 (dk_at dksX12_next_8 8 rfl rfl)
theorem dX12_next_196 : decode cX12_next 196 = .ok (.iload_n 1, 1) := dk_27 (dk_at dksX12_next_8 11 rfl rfl)
theorem dX12_next_197 : decode cX12_next 197 = .ok (.i2l, 1) := dk_133 (dk_at dksX12_next_8 12 rfl rfl)
theorem dX12_next_198 : decode cX12_next 198 = .ok (.ldc2_w 70, 3) := dk_20 0 70 (dk_at dksX12_next_8 13 rfl rfl)
theorem dX12_next_201 : decode cX12_next 201 = .ok (.ldc2_w 72, 3) := dk_20 0 72 (dk_at dksX12_next_8 16 rfl rfl)
theorem dX12_next_204 : decode cX12_next 204 = .ok (.invokestatic 54, 3) := dk_184 0 54 (dk_at dksX12_next_8 19 rfl rfl)
theorem dX12_next_207 : decode cX12_next 207 = .ok (.ifCond .eq 119, 3) := dk_153 0 119 (dk_at dksX12_next_9 0 rfl rfl)
theorem dX12_next_210 : decode cX12_next 210 = .ok (.aload_n 0, 1) := dk_42 (dk_at dksX12_next_9 3 rfl rfl)
theorem dX12_next_211 : decode cX12_next 211 = .ok (.aload_n 0, 1) := dk_42 (dk_at dksX12_next_9 4 rfl rfl)
theorem dX12_next_212 : decode cX12_next 212 = .ok (.getfield 20, 3) := dk_180 0 20 (dk_at dksX12_next_9 5 rfl rfl)
theorem dX12_next_215 : decode cX12_next 215 = .ok (.putfield 33, 3) := dk_181 0 33 (dk_at dksX12_next_9 8 rfl rfl)
theorem dX12_next_218 : decode cX12_next 218 = .ok (.aload_n 0, 1) := dk_42 (dk_at dksX12_next_9 11 rfl rfl)
theorem dX12_next_219 : decode cX12_next 219 = .ok (.aload_n 0, 1) := dk_42 (dk_at dksX12_next_9 12 rfl rfl)
theorem dX12_next_220 : decode cX12_next 220 = .ok (.getfield 33, 3) := dk_180 0 33 (dk_at dksX12_next_9 13 rfl rfl)
theorem dX12_next_223 : decode cX12_next 223 = .ok (.invokevirtual 40, 3) := dk_182 0 40 (dk_at dksX12_next_9 16 rfl rfl)
theorem dX12_next_226 : decode cX12_next 226 = .ok (.i2l, 1) := dk_133 (dk_at dksX12_next_9 19 rfl rfl)
theorem dX12_next_227 : decode cX12_next 227 = .ok (.ldc2_w 70, 3) := dk_20 0 70 (dk_at dksX12_next_9 20 rfl rfl)
theorem dX12_next_230 : decode cX12_next 230 = .ok (.ldc2_w 72, 3) := dk_20 0 72 (dk_at dksX12_next_10 0 rfl rfl)
theorem dX12_next_233 : decode cX12_next 233 = .ok (.invokestatic 54, 3) := dk_184 0 54 (dk_at dksX12_next_10 3 rfl rfl)
theorem dX12_next_236 : decode cX12_next 236 = .ok (.ifCond .eq 59, 3) := dk_153 0 59 (dk_at dksX12_next_10 6 rfl rfl)
theorem dX12_next_239 : decode cX12_next 239 = .ok (.aload_n 0, 1) := dk_42 (dk_at dksX12_next_10 9 rfl rfl)
theorem dX12_next_240 : decode cX12_next 240 = .ok (.aload_n 0, 1) := dk_42 (dk_at dksX12_next_10 10 rfl rfl)
theorem dX12_next_241 : decode cX12_next 241 = .ok (.getfield 33, 3) := dk_180 0 33 (dk_at dksX12_next_10 11 rfl rfl)
theorem dX12_next_244 : decode cX12_next 244 = .ok (.aload_n 0, 1) := dk_42 (dk_at dksX12_next_10 14 rfl rfl)
theorem dX12_next_245 : decode cX12_next 245 = .ok (.getfield 20, 3) := dk_180 0 20 (dk_at dksX12_next_10 15 rfl rfl)
theorem dX12_next_248 : decode cX12_next 248 = .ok (.isub, 1) := dk_100 (dk_at dksX12_next_10 18 rfl rfl)
theorem dX12_next_249 : decode cX12_next 249 = .ok (.iconst 4, 1) := dk_7 (dk_at dksX12_next_10 19 rfl rfl)
theorem dX12_next_250 : decode cX12_next 250 = .ok (.if_icmp .ge 25, 3) := dk_162 0 25 (dk_at dksX12_next_10 20 rfl rfl)
theorem dX12_next_253 : decode cX12_next 253 = .ok (.bipush 10, 2) := dk_16 10 (dk_at dksX12_next_11 0 rfl rfl)
theorem dX12_next_255 : decode cX12_next 255 = .ok (.aload_n 0, 1) := dk_42 (dk_at dksX12_next_11 2 rfl rfl)
theorem dX12_next_256 : decode cX12_next 256 = .ok (.getfield 44, 3) := dk_180 0 44 (dk_at dksX12_next_11 3 rfl rfl)
theorem dX12_next_259 : decode cX12_next 259 = .ok (.imul, 1) := dk_104 (dk_at dksX12_next_11 6 rfl rfl)
theorem dX12_next_260 : decode cX12_next 260 = .ok (.aload_n 0, 1) := dk_42 (dk_at dksX12_next_11 7 rfl rfl)
theorem dX12_next_261 : decode cX12_next 261 = .ok (.aload_n 0, 1) := dk_42 (dk_at dksX12_next_11 8 rfl rfl)
theorem dX12_next_262 : decode cX12_next 262 = .ok (.getfield 33, 3) := dk_180 0 33 (dk_at dksX12_next_11 9 rfl rfl)
theorem dX12_next_265 : decode cX12_next 265 = .ok (.invokevirtual 40, 3) := dk_182 0 40 (dk_at dksX12_next_11 12 rfl rfl)
theorem dX12_next_268 : decode cX12_next 268 = .ok (.iadd, 1) := dk_96 (dk_at dksX12_next_11 15 rfl rfl)
theorem dX12_next_269 : decode cX12_next 269 = .ok (.bipush 48, 2) := dk_16 48 (dk_at dksX12_next_11 16 rfl rfl)
theorem dX12_next_271 : decode cX12_next 271 = .ok (.isub, 1) := dk_100 (dk_at dksX12_next_11 18 rfl rfl)
theorem dX12_next_272 : decode cX12_next 272 = .ok (.goto 7, 3) := dk_167 0 7 (dk_at dksX12_next_11 19 rfl rfl)
theorem dX12_next_275 : decode cX12_next 275 = .ok (.aload_n 0, 1) := dk_42 (dk_at dksX12_next_11 22 rfl rfl)
theorem dX12_next_276 : decode cX12_next 276 = .ok (.getfield 44, 3) := dk_180 0 44 (dk_at dksX12_next_12 0 rfl rfl)
theorem dX12_next_279 : decode cX12_next 279 = .ok (.putfield 44, 3) := dk_181 0 44 (dk_at dksX12_next_12 3 rfl rfl)
theorem dX12_next_282 : decode cX12_next 282 = .ok (.aload_n 0, 1) := dk_42 (dk_at dksX12_next_12 6 rfl rfl)
theorem dX12_next_283 : decode cX12_next 283 = .ok (.dup, 1) := dk_89 (dk_at dksX12_next_12 7 rfl rfl)
theorem dX12_next_284 : decode cX12_next 284 = .ok (.getfield 33, 3) := dk_180 0 33 (dk_at dksX12_next_12 8 rfl rfl)
theorem dX12_next_287 : decode cX12_next 287 = .ok (.iconst 1, 1) := dk_4 (dk_at dksX12_next_12 11 rfl rfl)
theorem dX12_next_288 : decode cX12_next 288 = .ok (.iadd, 1) := dk_96 (dk_at dksX12_next_12 12 rfl rfl)
theorem dX12_next_289 : decode cX12_next 289 = .ok (.putfield 33, 3) := dk_181 0 33 (dk_at dksX12_next_12 13 rfl rfl)
theorem dX12_next_292 : decode cX12_next 292 = .ok (.goto (-74), 3) := dk_167 255 182 (dk_at dksX12_next_12 16 rfl rfl)
theorem dX12_next_295 : decode cX12_next 295 = .ok (.aload_n 0, 1) := dk_42 (dk_at dksX12_next_12 19 rfl rfl)
theorem dX12_next_296 : decode cX12_next 296 = .ok (.aload_n 0, 1) := dk_42 (dk_at dksX12_next_12 20 rfl rfl)
theorem dX12_next_297 : decode cX12_next 297 = .ok (.getfield 33, 3) := dk_180 0 33 (dk_at dksX12_next_12 21 rfl rfl)
theorem dX12_next_300 : decode cX12_next 300 = .ok (.aload_n 0, 1) := dk_42 (dk_at dksX12_next_13 0 rfl rfl)
theorem dX12_next_301 : decode cX12_next 301 = .ok (.getfield 20, 3) := dk_180 0 20 (dk_at dksX12_next_13 1 rfl rfl)
theorem dX12_next_304 : decode cX12_next 304 = .ok (.isub, 1) := dk_100 (dk_at dksX12_next_13 4 rfl rfl)
theorem dX12_next_305 : decode cX12_next 305 = .ok (.iconst 4, 1) := dk_7 (dk_at dksX12_next_13 5 rfl rfl)
theorem dX12_next_306 : decode cX12_next 306 = .ok (.if_icmp .gt 7, 3) := dk_163 0 7 (dk_at dksX12_next_13 6 rfl rfl)
theorem dX12_next_309 : decode cX12_next 309 = .ok (.iconst 1, 1) := dk_4 (dk_at dksX12_next_13 9 rfl rfl)
theorem dX12_next_310 : decode cX12_next 310 = .ok (.goto 4, 3) := dk_167 0 4 (dk_at dksX12_next_13 10 rfl rfl)
theorem dX12_next_313 : decode cX12_next 313 = .ok (.iconst 0, 1) := dk_3 (dk_at dksX12_next_13 13 rfl rfl)
theorem dX12_next_314 : decode cX12_next 314 = .ok (.iconst 1, 1) := dk_4 (dk_at dksX12_next_13 14 rfl rfl)
theorem dX12_next_315 : decode cX12_next 315 = .ok (.invokevirtual 66, 3) := dk_182 0 66 (dk_at dksX12_next_13 15 rfl rfl)
theorem dX12_next_318 : decode cX12_next 318 = .ok (.aload_n 0, 1) := dk_42 (dk_at dksX12_next_13 18 rfl rfl)
theorem dX12_next_319 : decode cX12_next 319 = .ok (.iconst 2, 1) := dk_5 (dk_at dksX12_next_13 19 rfl rfl)
theorem dX12_next_320 : decode cX12_next 320 = .ok (.putfield 47, 3) := dk_181 0 47 (dk_at dksX12_next_13 20 rfl rfl)
theorem dX12_next_323 : decode cX12_next 323 = .ok (.goto 77, 3) := dk_167 0 77 (dk_at dksX12_next_14 0 rfl rfl)
theorem dX12_next_326 : decode cX12_next 326 = .ok (.aload_n 0, 1) := dk_42 (dk_at dksX12_next_14 3 rfl rfl)
theorem dX12_next_327 : decode cX12_next 327 = .ok (.iload_n 1, 1) := dk_27 (dk_at dksX12_next_14 4 rfl rfl)
theorem dX12_next_328 : decode cX12_next 328 = .ok (.bipush 40, 2) := dk_16 40 (dk_at dksX12_next_14 5 rfl rfl)
theorem dX12_next_330 : decode cX12_next 330 = .ok (.if_icmp .eq 51, 3) := dk_159 0 51 (dk_at dksX12_next_14 7 rfl rfl)
theorem dX12_next_333 : decode cX12_next 333 = .ok (.iload_n 1, 1) := dk_27 (dk_at dksX12_next_14 10 rfl rfl)
theorem dX12_next_334 : decode cX12_next 334 = .ok (.bipush 41, 2) := dk_16 41 (dk_at dksX12_next_14 11 rfl rfl)
theorem dX12_next_336 : decode cX12_next 336 = .ok (.if_icmp .eq 45, 3) := dk_159 0 45 (dk_at dksX12_next_14 13 rfl rfl)
theorem dX12_next_339 : decode cX12_next 339 = .ok (.iload_n 1, 1) := dk_27 (dk_at dksX12_next_14 16 rfl rfl)
theorem dX12_next_340 : decode cX12_next 340 = .ok (.bipush 43, 2) := dk_16 43 (dk_at dksX12_next_14 17 rfl rfl)
theorem dX12_next_342 : decode cX12_next 342 = .ok (.if_icmp .eq 39, 3) := dk_159 0 39 (dk_at dksX12_next_14 19 rfl rfl)
theorem dX12_next_345 : decode cX12_next 345 = .ok (.iload_n 1, 1) := dk_27 (dk_at dksX12_next_14 22 rfl rfl)
theorem dX12_next_346 : decode cX12_next 346 = .ok (.bipush 45, 2) := dk_16 45 (dk_at dksX12_next_15 0 rfl rfl)
theorem dX12_next_348 : decode cX12_next 348 = .ok (.if_icmp .eq 33, 3) := dk_159 0 33 (dk_at dksX12_next_15 2 rfl rfl)
theorem dX12_next_351 : decode cX12_next 351 = .ok (.iload_n 1, 1) := dk_27 (dk_at dksX12_next_15 5 rfl rfl)
theorem dX12_next_352 : decode cX12_next 352 = .ok (.bipush 42, 2) := dk_16 42 (dk_at dksX12_next_15 6 rfl rfl)
theorem dX12_next_354 : decode cX12_next 354 = .ok (.if_icmp .eq 27, 3) := dk_159 0 27 (dk_at dksX12_next_15 8 rfl rfl)
theorem dX12_next_357 : decode cX12_next 357 = .ok (.iload_n 1, 1) := dk_27 (dk_at dksX12_next_15 11 rfl rfl)
theorem dX12_next_358 : decode cX12_next 358 = .ok (.bipush 60, 2) := dk_16 60 (dk_at dksX12_next_15 12 rfl rfl)
theorem dX12_next_360 : decode cX12_next 360 = .ok (.if_icmp .eq 21, 3) := dk_159 0 21 (dk_at dksX12_next_15 14 rfl rfl)
theorem dX12_next_363 : decode cX12_next 363 = .ok (.iload_n 1, 1) := dk_27 (dk_at dksX12_next_15 17 rfl rfl)
theorem dX12_next_364 : decode cX12_next 364 = .ok (.bipush 62, 2) := dk_16 62 (dk_at dksX12_next_15 18 rfl rfl)
theorem dX12_next_366 : decode cX12_next 366 = .ok (.if_icmp .eq 15, 3) := dk_159 0 15 (dk_at dksX12_next_15 20 rfl rfl)
theorem dX12_next_369 : decode cX12_next 369 = .ok (.iload_n 1, 1) := dk_27 (dk_at dksX12_next_15 23 rfl rfl)
theorem dX12_next_370 : decode cX12_next 370 = .ok (.bipush 61, 2) := dk_16 61 (dk_at dksX12_next_16 0 rfl rfl)
theorem dX12_next_372 : decode cX12_next 372 = .ok (.if_icmp .eq 9, 3) := dk_159 0 9 (dk_at dksX12_next_16 2 rfl rfl)
theorem dX12_next_375 : decode cX12_next 375 = .ok (.iload_n 1, 1) := dk_27 (dk_at dksX12_next_16 5 rfl rfl)
theorem dX12_next_376 : decode cX12_next 376 = .ok (.bipush 59, 2) := dk_16 59 (dk_at dksX12_next_16 6 rfl rfl)
theorem dX12_next_378 : decode cX12_next 378 = .ok (.if_icmp .ne 7, 3) := dk_160 0 7 (dk_at dksX12_next_16 8 rfl rfl)
theorem dX12_next_381 : decode cX12_next 381 = .ok (.iconst 1, 1) := dk_4 (dk_at dksX12_next_16 11 rfl rfl)
theorem dX12_next_382 : decode cX12_next 382 = .ok (.goto 4, 3) := dk_167 0 4 (dk_at dksX12_next_16 12 rfl rfl)
theorem dX12_next_385 : decode cX12_next 385 = .ok (.iconst 0, 1) := dk_3 (dk_at dksX12_next_16 15 rfl rfl)
theorem dX12_next_386 : decode cX12_next 386 = .ok (.iconst 1, 1) := dk_4 (dk_at dksX12_next_16 16 rfl rfl)
theorem dX12_next_387 : decode cX12_next 387 = .ok (.invokevirtual 66, 3) := dk_182 0 66 (dk_at dksX12_next_16 17 rfl rfl)
theorem dX12_next_390 : decode cX12_next 390 = .ok (.aload_n 0, 1) := dk_42 (dk_at dksX12_next_16 20 rfl rfl)
theorem dX12_next_391 : decode cX12_next 391 = .ok (.iconst 3, 1) := dk_6 (dk_at dksX12_next_16 21 rfl rfl)
theorem dX12_next_392 : decode cX12_next 392 = .ok (.putfield 47, 3) := dk_181 0 47 (dk_at dksX12_next_17 0 rfl rfl)
theorem dX12_next_395 : decode cX12_next 395 = .ok (.aload_n 0, 1) := dk_42 (dk_at dksX12_next_17 3 rfl rfl)
theorem dX12_next_396 : decode cX12_next 396 = .ok (.iload_n 1, 1) := dk_27 (dk_at dksX12_next_17 4 rfl rfl)
theorem dX12_next_397 : decode cX12_next 397 = .ok (.putfield 44, 3) := dk_181 0 44 (dk_at dksX12_next_17 5 rfl rfl)
theorem dX12_next_400 : decode cX12_next 400 = .ok (.return_, 1) := dk_177 (dk_at dksX12_next_17 8 rfl rfl)
abbrev cX12_at : ByteArray := prog_13_method_2_code
def yX12_at : MethodName := ⟨RX12, "at", "(I)I"⟩
def dkwX12_at_1 : List UInt8 := [172]
abbrev dktX12_at_1 : List UInt8 := dkwX12_at_1 ++ []
def dkwX12_at_0 : List UInt8 := [27, 42, 180, 0, 9, 190, 162, 0, 16, 42, 180, 0, 9, 27, 51, 17, 0, 255, 126, 167, 0, 5, 16, 252]
abbrev dktX12_at_0 : List UInt8 := dkwX12_at_0 ++ dktX12_at_1
theorem dksX12_at_0 : cX12_at.data.toList.drop 0 = dktX12_at_0 := by decide +kernel
theorem dksX12_at_1 : cX12_at.data.toList.drop 24 = dktX12_at_1 := dk_seg dksX12_at_0 24 rfl rfl
theorem dX12_at_0 : decode cX12_at 0 = .ok (.iload_n 1, 1) := dk_27 (dk_at dksX12_at_0 0 rfl rfl)
theorem dX12_at_1 : decode cX12_at 1 = .ok (.aload_n 0, 1) := dk_42 (dk_at dksX12_at_0 1 rfl rfl)
theorem dX12_at_2 : decode cX12_at 2 = .ok (.getfield 9, 3) := dk_180 0 9 (dk_at dksX12_at_0 2 rfl rfl)
theorem dX12_at_5 : decode cX12_at 5 = .ok (.arraylength, 1) := dk_190 (dk_at dksX12_at_0 5 rfl rfl)
theorem dX12_at_6 : decode cX12_at 6 = .ok (.if_icmp .ge 16, 3) := dk_162 0 16 (dk_at dksX12_at_0 6 rfl rfl)
theorem dX12_at_9 : decode cX12_at 9 = .ok (.aload_n 0, 1) := dk_42 (dk_at dksX12_at_0 9 rfl rfl)
theorem dX12_at_10 : decode cX12_at 10 = .ok (.getfield 9, 3) := dk_180 0 9 (dk_at dksX12_at_0 10 rfl rfl)
theorem dX12_at_13 : decode cX12_at 13 = .ok (.iload_n 1, 1) := dk_27 (dk_at dksX12_at_0 13 rfl rfl)
theorem dX12_at_14 : decode cX12_at 14 = .ok (.baload, 1) := dk_51 (dk_at dksX12_at_0 14 rfl rfl)
theorem dX12_at_15 : decode cX12_at 15 = .ok (.sipush 255, 3) := dk_17 0 255 (dk_at dksX12_at_0 15 rfl rfl)
theorem dX12_at_18 : decode cX12_at 18 = .ok (.iand, 1) := dk_126 (dk_at dksX12_at_0 18 rfl rfl)
theorem dX12_at_19 : decode cX12_at 19 = .ok (.goto 5, 3) := dk_167 0 5 (dk_at dksX12_at_0 19 rfl rfl)
theorem dX12_at_22 : decode cX12_at 22 = .ok (.bipush (-4), 2) := dk_16 252 (dk_at dksX12_at_0 22 rfl rfl)
theorem dX12_at_24 : decode cX12_at 24 = .ok (.ireturn, 1) := dk_172 (dk_at dksX12_at_1 0 rfl rfl)
abbrev cX12_isWord : ByteArray := prog_13_method_4_code
def yX12_isWord : MethodName := ⟨RX12, "isWord", "(Ljava/lang/String;)Z"⟩
def dkwX12_isWord_2 : List UInt8 := [182, 0, 40, 160, 0, 7, 4, 167, 0, 4, 3, 61, 132, 3, 1, 167, 255, 217, 28, 172]
abbrev dktX12_isWord_2 : List UInt8 := dkwX12_isWord_2 ++ []
def dkwX12_isWord_1 : List UInt8 := [29, 43, 182, 0, 27, 162, 0, 37, 28, 153, 0, 33, 43, 29, 182, 0, 36, 42, 42, 180, 0, 20, 29, 96]
abbrev dktX12_isWord_1 : List UInt8 := dkwX12_isWord_1 ++ dktX12_isWord_2
def dkwX12_isWord_0 : List UInt8 := [43, 182, 0, 27, 42, 180, 0, 33, 42, 180, 0, 20, 100, 160, 0, 7, 4, 167, 0, 4, 3, 61, 3, 62]
abbrev dktX12_isWord_0 : List UInt8 := dkwX12_isWord_0 ++ dktX12_isWord_1
theorem dksX12_isWord_0 : cX12_isWord.data.toList.drop 0 = dktX12_isWord_0 := by decide +kernel
theorem dksX12_isWord_1 : cX12_isWord.data.toList.drop 24 = dktX12_isWord_1 := dk_seg dksX12_isWord_0 24 rfl rfl
theorem dksX12_isWord_2 : cX12_isWord.data.toList.drop 48 = dktX12_isWord_2 := dk_seg dksX12_isWord_1 24 rfl rfl
theorem dX12_isWord_0 : decode cX12_isWord 0 = .ok (.aload_n 1, 1) := dk_43 (dk_at dksX12_isWord_0 0 rfl rfl)
theorem dX12_isWord_1 : decode cX12_isWord 1 = .ok (.invokevirtual 27, 3) := dk_182 0 27 (dk_at dksX12_isWord_0 1 rfl rfl)
theorem dX12_isWord_4 : decode cX12_isWord 4 = .ok (.aload_n 0, 1) := dk_42 (dk_at dksX12_isWord_0 4 rfl rfl)
theorem dX12_isWord_5 : decode cX12_isWord 5 = .ok (.getfield 33, 3) := dk_180 0 33 (dk_at dksX12_isWord_0 5 rfl rfl)
theorem dX12_isWord_8 : decode cX12_isWord 8 = .ok (.aload_n 0, 1) := dk_42 (dk_at dksX12_isWord_0 8 rfl rfl)
theorem dX12_isWord_9 : decode cX12_isWord 9 = .ok (.getfield 20, 3) := dk_180 0 20 (dk_at dksX12_isWord_0 9 rfl rfl)
theorem dX12_isWord_12 : decode cX12_isWord 12 = .ok (.isub, 1) := dk_100 (dk_at dksX12_isWord_0 12 rfl rfl)
theorem dX12_isWord_13 : decode cX12_isWord 13 = .ok (.if_icmp .ne 7, 3) := dk_160 0 7 (dk_at dksX12_isWord_0 13 rfl rfl)
theorem dX12_isWord_16 : decode cX12_isWord 16 = .ok (.iconst 1, 1) := dk_4 (dk_at dksX12_isWord_0 16 rfl rfl)
theorem dX12_isWord_17 : decode cX12_isWord 17 = .ok (.goto 4, 3) := dk_167 0 4 (dk_at dksX12_isWord_0 17 rfl rfl)
theorem dX12_isWord_20 : decode cX12_isWord 20 = .ok (.iconst 0, 1) := dk_3 (dk_at dksX12_isWord_0 20 rfl rfl)
theorem dX12_isWord_21 : decode cX12_isWord 21 = .ok (.istore_n 2, 1) := dk_61 (dk_at dksX12_isWord_0 21 rfl rfl)
theorem dX12_isWord_22 : decode cX12_isWord 22 = .ok (.iconst 0, 1) := dk_3 (dk_at dksX12_isWord_0 22 rfl rfl)
theorem dX12_isWord_23 : decode cX12_isWord 23 = .ok (.istore_n 3, 1) := dk_62 (dk_at dksX12_isWord_0 23 rfl rfl)
theorem dX12_isWord_24 : decode cX12_isWord 24 = .ok (.iload_n 3, 1) := dk_29 (dk_at dksX12_isWord_1 0 rfl rfl)
theorem dX12_isWord_25 : decode cX12_isWord 25 = .ok (.aload_n 1, 1) := dk_43 (dk_at dksX12_isWord_1 1 rfl rfl)
theorem dX12_isWord_26 : decode cX12_isWord 26 = .ok (.invokevirtual 27, 3) := dk_182 0 27 (dk_at dksX12_isWord_1 2 rfl rfl)
theorem dX12_isWord_29 : decode cX12_isWord 29 = .ok (.if_icmp .ge 37, 3) := dk_162 0 37 (dk_at dksX12_isWord_1 5 rfl rfl)
theorem dX12_isWord_32 : decode cX12_isWord 32 = .ok (.iload_n 2, 1) := dk_28 (dk_at dksX12_isWord_1 8 rfl rfl)
theorem dX12_isWord_33 : decode cX12_isWord 33 = .ok (.ifCond .eq 33, 3) := dk_153 0 33 (dk_at dksX12_isWord_1 9 rfl rfl)
theorem dX12_isWord_36 : decode cX12_isWord 36 = .ok (.aload_n 1, 1) := dk_43 (dk_at dksX12_isWord_1 12 rfl rfl)
theorem dX12_isWord_37 : decode cX12_isWord 37 = .ok (.iload_n 3, 1) := dk_29 (dk_at dksX12_isWord_1 13 rfl rfl)
theorem dX12_isWord_38 : decode cX12_isWord 38 = .ok (.invokevirtual 36, 3) := dk_182 0 36 (dk_at dksX12_isWord_1 14 rfl rfl)
theorem dX12_isWord_41 : decode cX12_isWord 41 = .ok (.aload_n 0, 1) := dk_42 (dk_at dksX12_isWord_1 17 rfl rfl)
theorem dX12_isWord_42 : decode cX12_isWord 42 = .ok (.aload_n 0, 1) := dk_42 (dk_at dksX12_isWord_1 18 rfl rfl)
theorem dX12_isWord_43 : decode cX12_isWord 43 = .ok (.getfield 20, 3) := dk_180 0 20 (dk_at dksX12_isWord_1 19 rfl rfl)
theorem dX12_isWord_46 : decode cX12_isWord 46 = .ok (.iload_n 3, 1) := dk_29 (dk_at dksX12_isWord_1 22 rfl rfl)
theorem dX12_isWord_47 : decode cX12_isWord 47 = .ok (.iadd, 1) := dk_96 (dk_at dksX12_isWord_1 23 rfl rfl)
theorem dX12_isWord_48 : decode cX12_isWord 48 = .ok (.invokevirtual 40, 3) := dk_182 0 40 (dk_at dksX12_isWord_2 0 rfl rfl)
theorem dX12_isWord_51 : decode cX12_isWord 51 = .ok (.if_icmp .ne 7, 3) := dk_160 0 7 (dk_at dksX12_isWord_2 3 rfl rfl)
theorem dX12_isWord_54 : decode cX12_isWord 54 = .ok (.iconst 1, 1) := dk_4 (dk_at dksX12_isWord_2 6 rfl rfl)
theorem dX12_isWord_55 : decode cX12_isWord 55 = .ok (.goto 4, 3) := dk_167 0 4 (dk_at dksX12_isWord_2 7 rfl rfl)
theorem dX12_isWord_58 : decode cX12_isWord 58 = .ok (.iconst 0, 1) := dk_3 (dk_at dksX12_isWord_2 10 rfl rfl)
theorem dX12_isWord_59 : decode cX12_isWord 59 = .ok (.istore_n 2, 1) := dk_61 (dk_at dksX12_isWord_2 11 rfl rfl)
theorem dX12_isWord_60 : decode cX12_isWord 60 = .ok (.iinc 3 1, 3) := dk_132 3 1 (dk_at dksX12_isWord_2 12 rfl rfl)
theorem dX12_isWord_63 : decode cX12_isWord 63 = .ok (.goto (-39), 3) := dk_167 255 217 (dk_at dksX12_isWord_2 15 rfl rfl)
theorem dX12_isWord_66 : decode cX12_isWord 66 = .ok (.iload_n 2, 1) := dk_28 (dk_at dksX12_isWord_2 18 rfl rfl)
theorem dX12_isWord_67 : decode cX12_isWord 67 = .ok (.ireturn, 1) := dk_172 (dk_at dksX12_isWord_2 19 rfl rfl)
abbrev cX12_must : ByteArray := prog_13_method_3_code
def yX12_must : MethodName := ⟨RX12, "must", "(ZI)V"⟩
def dkwX12_must_0 : List UInt8 := [27, 154, 0, 16, 187, 0, 18, 89, 28, 42, 180, 0, 20, 183, 0, 24, 191, 177]
abbrev dktX12_must_0 : List UInt8 := dkwX12_must_0 ++ []
theorem dksX12_must_0 : cX12_must.data.toList.drop 0 = dktX12_must_0 := by decide +kernel
theorem dX12_must_0 : decode cX12_must 0 = .ok (.iload_n 1, 1) := dk_27 (dk_at dksX12_must_0 0 rfl rfl)
theorem dX12_must_1 : decode cX12_must 1 = .ok (.ifCond .ne 16, 3) := dk_154 0 16 (dk_at dksX12_must_0 1 rfl rfl)
theorem dX12_must_4 : decode cX12_must 4 = .ok (.new 18, 3) := dk_187 0 18 (dk_at dksX12_must_0 4 rfl rfl)
theorem dX12_must_7 : decode cX12_must 7 = .ok (.dup, 1) := dk_89 (dk_at dksX12_must_0 7 rfl rfl)
theorem dX12_must_8 : decode cX12_must 8 = .ok (.iload_n 2, 1) := dk_28 (dk_at dksX12_must_0 8 rfl rfl)
theorem dX12_must_9 : decode cX12_must 9 = .ok (.aload_n 0, 1) := dk_42 (dk_at dksX12_must_0 9 rfl rfl)
theorem dX12_must_10 : decode cX12_must 10 = .ok (.getfield 20, 3) := dk_180 0 20 (dk_at dksX12_must_0 10 rfl rfl)
theorem dX12_must_13 : decode cX12_must 13 = .ok (.invokespecial 24, 3) := dk_183 0 24 (dk_at dksX12_must_0 13 rfl rfl)
theorem dX12_must_16 : decode cX12_must 16 = .ok (.athrow, 1) := dk_191 (dk_at dksX12_must_0 16 rfl rfl)
theorem dX12_must_17 : decode cX12_must 17 = .ok (.return_, 1) := dk_177 (dk_at dksX12_must_0 17 rfl rfl)
abbrev cX12_all : ByteArray := prog_13_method_14_code
def yX12_all : MethodName := ⟨RX12, "all", "()Ljava/util/List;"⟩
def dkwX12_all_5 : List UInt8 := [182, 0, 15, 167, 255, 143, 43, 176]
abbrev dktX12_all_5 : List UInt8 := dkwX12_all_5 ++ []
def dkwX12_all_4 : List UInt8 := [182, 0, 89, 183, 0, 141, 185, 0, 144, 2, 0, 87, 42, 42, 16, 59, 182, 0, 82, 5, 182, 0, 66, 42]
abbrev dktX12_all_4 : List UInt8 := dkwX12_all_4 ++ dktX12_all_5
def dkwX12_all_3 : List UInt8 := [187, 0, 136, 89, 28, 28, 153, 0, 8, 28, 6, 160, 0, 10, 42, 182, 0, 138, 167, 0, 7, 42]
abbrev dktX12_all_3 : List UInt8 := dkwX12_all_3 ++ dktX12_all_4
def dkwX12_all_2 : List UInt8 := [16, 12, 162, 0, 7, 4, 167, 0, 4, 3, 7, 182, 0, 66, 42, 180, 0, 44, 61, 42, 182, 0, 15, 43]
abbrev dktX12_all_2 : List UInt8 := dkwX12_all_2 ++ dktX12_all_3
def dkwX12_all_1 : List UInt8 := [42, 180, 0, 44, 6, 163, 0, 7, 4, 167, 0, 4, 3, 5, 182, 0, 66, 42, 43, 185, 0, 131, 1, 0]
abbrev dktX12_all_1 : List UInt8 := dkwX12_all_1 ++ dktX12_all_2
def dkwX12_all_0 : List UInt8 := [187, 0, 128, 89, 183, 0, 130, 76, 42, 180, 0, 47, 153, 0, 112, 42, 42, 180, 0, 47, 4, 160, 0, 15]
abbrev dktX12_all_0 : List UInt8 := dkwX12_all_0 ++ dktX12_all_1
theorem dksX12_all_0 : cX12_all.data.toList.drop 0 = dktX12_all_0 := by decide +kernel
theorem dksX12_all_1 : cX12_all.data.toList.drop 24 = dktX12_all_1 := dk_seg dksX12_all_0 24 rfl rfl
theorem dksX12_all_2 : cX12_all.data.toList.drop 48 = dktX12_all_2 := dk_seg dksX12_all_1 24 rfl rfl
theorem dksX12_all_3 : cX12_all.data.toList.drop 72 = dktX12_all_3 := dk_seg dksX12_all_2 24 rfl rfl
theorem dksX12_all_4 : cX12_all.data.toList.drop 94 = dktX12_all_4 := dk_seg dksX12_all_3 22 rfl rfl
theorem dksX12_all_5 : cX12_all.data.toList.drop 118 = dktX12_all_5 := dk_seg dksX12_all_4 24 rfl rfl
theorem dX12_all_0 : decode cX12_all 0 = .ok (.new 128, 3) := dk_187 0 128 (dk_at dksX12_all_0 0 rfl rfl)
theorem dX12_all_3 : decode cX12_all 3 = .ok (.dup, 1) := dk_89 (dk_at dksX12_all_0 3 rfl rfl)
theorem dX12_all_4 : decode cX12_all 4 = .ok (.invokespecial 130, 3) := dk_183 0 130 (dk_at dksX12_all_0 4 rfl rfl)
theorem dX12_all_7 : decode cX12_all 7 = .ok (.astore_n 1, 1) := dk_76 (dk_at dksX12_all_0 7 rfl rfl)
theorem dX12_all_8 : decode cX12_all 8 = .ok (.aload_n 0, 1) := dk_42 (dk_at dksX12_all_0 8 rfl rfl)
theorem dX12_all_9 : decode cX12_all 9 = .ok (.getfield 47, 3) := dk_180 0 47 (dk_at dksX12_all_0 9 rfl rfl)
theorem dX12_all_12 : decode cX12_all 12 = .ok (.ifCond .eq 112, 3) := dk_153 0 112 (dk_at dksX12_all_0 12 rfl rfl)
theorem dX12_all_15 : decode cX12_all 15 = .ok (.aload_n 0, 1) := dk_42 (dk_at dksX12_all_0 15 rfl rfl)
theorem dX12_all_16 : decode cX12_all 16 = .ok (.aload_n 0, 1) := dk_42 (dk_at dksX12_all_0 16 rfl rfl)
theorem dX12_all_17 : decode cX12_all 17 = .ok (.getfield 47, 3) := dk_180 0 47 (dk_at dksX12_all_0 17 rfl rfl)
theorem dX12_all_20 : decode cX12_all 20 = .ok (.iconst 1, 1) := dk_4 (dk_at dksX12_all_0 20 rfl rfl)
theorem dX12_all_21 : decode cX12_all 21 = .ok (.if_icmp .ne 15, 3) := dk_160 0 15 (dk_at dksX12_all_0 21 rfl rfl)
theorem dX12_all_24 : decode cX12_all 24 = .ok (.aload_n 0, 1) := dk_42 (dk_at dksX12_all_1 0 rfl rfl)
theorem dX12_all_25 : decode cX12_all 25 = .ok (.getfield 44, 3) := dk_180 0 44 (dk_at dksX12_all_1 1 rfl rfl)
theorem dX12_all_28 : decode cX12_all 28 = .ok (.iconst 3, 1) := dk_6 (dk_at dksX12_all_1 4 rfl rfl)
theorem dX12_all_29 : decode cX12_all 29 = .ok (.if_icmp .gt 7, 3) := dk_163 0 7 (dk_at dksX12_all_1 5 rfl rfl)
theorem dX12_all_32 : decode cX12_all 32 = .ok (.iconst 1, 1) := dk_4 (dk_at dksX12_all_1 8 rfl rfl)
theorem dX12_all_33 : decode cX12_all 33 = .ok (.goto 4, 3) := dk_167 0 4 (dk_at dksX12_all_1 9 rfl rfl)
theorem dX12_all_36 : decode cX12_all 36 = .ok (.iconst 0, 1) := dk_3 (dk_at dksX12_all_1 12 rfl rfl)
theorem dX12_all_37 : decode cX12_all 37 = .ok (.iconst 2, 1) := dk_5 (dk_at dksX12_all_1 13 rfl rfl)
theorem dX12_all_38 : decode cX12_all 38 = .ok (.invokevirtual 66, 3) := dk_182 0 66 (dk_at dksX12_all_1 14 rfl rfl)
theorem dX12_all_41 : decode cX12_all 41 = .ok (.aload_n 0, 1) := dk_42 (dk_at dksX12_all_1 17 rfl rfl)
theorem dX12_all_42 : decode cX12_all 42 = .ok (.aload_n 1, 1) := dk_43 (dk_at dksX12_all_1 18 rfl rfl)
theorem dX12_all_43 : decode cX12_all 43 = .ok (.invokeinterface 131 1, 5) := by decide +kernel
theorem dX12_all_48 : decode cX12_all 48 = .ok (.bipush 12, 2) := dk_16 12 (dk_at dksX12_all_2 0 rfl rfl)
theorem dX12_all_50 : decode cX12_all 50 = .ok (.if_icmp .ge 7, 3) := dk_162 0 7 (dk_at dksX12_all_2 2 rfl rfl)
theorem dX12_all_53 : decode cX12_all 53 = .ok (.iconst 1, 1) := dk_4 (dk_at dksX12_all_2 5 rfl rfl)
theorem dX12_all_54 : decode cX12_all 54 = .ok (.goto 4, 3) := dk_167 0 4 (dk_at dksX12_all_2 6 rfl rfl)
theorem dX12_all_57 : decode cX12_all 57 = .ok (.iconst 0, 1) := dk_3 (dk_at dksX12_all_2 9 rfl rfl)
theorem dX12_all_58 : decode cX12_all 58 = .ok (.iconst 4, 1) := dk_7 (dk_at dksX12_all_2 10 rfl rfl)
theorem dX12_all_59 : decode cX12_all 59 = .ok (.invokevirtual 66, 3) := dk_182 0 66 (dk_at dksX12_all_2 11 rfl rfl)
theorem dX12_all_62 : decode cX12_all 62 = .ok (.aload_n 0, 1) := dk_42 (dk_at dksX12_all_2 14 rfl rfl)
theorem dX12_all_63 : decode cX12_all 63 = .ok (.getfield 44, 3) := dk_180 0 44 (dk_at dksX12_all_2 15 rfl rfl)
theorem dX12_all_66 : decode cX12_all 66 = .ok (.istore_n 2, 1) := dk_61 (dk_at dksX12_all_2 18 rfl rfl)
theorem dX12_all_67 : decode cX12_all 67 = .ok (.aload_n 0, 1) := dk_42 (dk_at dksX12_all_2 19 rfl rfl)
theorem dX12_all_68 : decode cX12_all 68 = .ok (.invokevirtual 15, 3) := dk_182 0 15 (dk_at dksX12_all_2 20 rfl rfl)
theorem dX12_all_71 : decode cX12_all 71 = .ok (.aload_n 1, 1) := dk_43 (dk_at dksX12_all_2 23 rfl rfl)
theorem dX12_all_72 : decode cX12_all 72 = .ok (.new 136, 3) := dk_187 0 136 (dk_at dksX12_all_3 0 rfl rfl)
theorem dX12_all_75 : decode cX12_all 75 = .ok (.dup, 1) := dk_89 (dk_at dksX12_all_3 3 rfl rfl)
theorem dX12_all_76 : decode cX12_all 76 = .ok (.iload_n 2, 1) := dk_28 (dk_at dksX12_all_3 4 rfl rfl)
theorem dX12_all_77 : decode cX12_all 77 = .ok (.iload_n 2, 1) := dk_28 (dk_at dksX12_all_3 5 rfl rfl)
theorem dX12_all_78 : decode cX12_all 78 = .ok (.ifCond .eq 8, 3) := dk_153 0 8 (dk_at dksX12_all_3 6 rfl rfl)
theorem dX12_all_81 : decode cX12_all 81 = .ok (.iload_n 2, 1) := dk_28 (dk_at dksX12_all_3 9 rfl rfl)
theorem dX12_all_82 : decode cX12_all 82 = .ok (.iconst 3, 1) := dk_6 (dk_at dksX12_all_3 10 rfl rfl)
theorem dX12_all_83 : decode cX12_all 83 = .ok (.if_icmp .ne 10, 3) := dk_160 0 10 (dk_at dksX12_all_3 11 rfl rfl)
theorem dX12_all_86 : decode cX12_all 86 = .ok (.aload_n 0, 1) := dk_42 (dk_at dksX12_all_3 14 rfl rfl)
theorem dX12_all_87 : decode cX12_all 87 = .ok (.invokevirtual 138, 3) := dk_182 0 138 (dk_at dksX12_all_3 15 rfl rfl)
theorem dX12_all_90 : decode cX12_all 90 = .ok (.goto 7, 3) := dk_167 0 7 (dk_at dksX12_all_3 18 rfl rfl)
theorem dX12_all_93 : decode cX12_all 93 = .ok (.aload_n 0, 1) := dk_42 (dk_at dksX12_all_3 21 rfl rfl)
theorem dX12_all_94 : decode cX12_all 94 = .ok (.invokevirtual 89, 3) := dk_182 0 89 (dk_at dksX12_all_4 0 rfl rfl)
theorem dX12_all_97 : decode cX12_all 97 = .ok (.invokespecial 141, 3) := dk_183 0 141 (dk_at dksX12_all_4 3 rfl rfl)
theorem dX12_all_100 : decode cX12_all 100 = .ok (.invokeinterface 144 2, 5) := by decide +kernel
theorem dX12_all_105 : decode cX12_all 105 = .ok (.pop, 1) := dk_87 (dk_at dksX12_all_4 11 rfl rfl)
theorem dX12_all_106 : decode cX12_all 106 = .ok (.aload_n 0, 1) := dk_42 (dk_at dksX12_all_4 12 rfl rfl)
theorem dX12_all_107 : decode cX12_all 107 = .ok (.aload_n 0, 1) := dk_42 (dk_at dksX12_all_4 13 rfl rfl)
theorem dX12_all_108 : decode cX12_all 108 = .ok (.bipush 59, 2) := dk_16 59 (dk_at dksX12_all_4 14 rfl rfl)
theorem dX12_all_110 : decode cX12_all 110 = .ok (.invokevirtual 82, 3) := dk_182 0 82 (dk_at dksX12_all_4 16 rfl rfl)
theorem dX12_all_113 : decode cX12_all 113 = .ok (.iconst 2, 1) := dk_5 (dk_at dksX12_all_4 19 rfl rfl)
theorem dX12_all_114 : decode cX12_all 114 = .ok (.invokevirtual 66, 3) := dk_182 0 66 (dk_at dksX12_all_4 20 rfl rfl)
theorem dX12_all_117 : decode cX12_all 117 = .ok (.aload_n 0, 1) := dk_42 (dk_at dksX12_all_4 23 rfl rfl)
theorem dX12_all_118 : decode cX12_all 118 = .ok (.invokevirtual 15, 3) := dk_182 0 15 (dk_at dksX12_all_5 0 rfl rfl)
theorem dX12_all_121 : decode cX12_all 121 = .ok (.goto (-113), 3) := dk_167 255 143 (dk_at dksX12_all_5 3 rfl rfl)
theorem dX12_all_124 : decode cX12_all 124 = .ok (.aload_n 1, 1) := dk_43 (dk_at dksX12_all_5 6 rfl rfl)
theorem dX12_all_125 : decode cX12_all 125 = .ok (.areturn, 1) := dk_176 (dk_at dksX12_all_5 7 rfl rfl)
abbrev cX12_test : ByteArray := prog_13_method_12_code
def yX12_test : MethodName := ⟨RX12, "test", "()LValleyGuides$Part;"⟩
def dkwX12_test_1 : List UInt8 := [182, 0, 114, 183, 0, 119, 76, 167, 255, 231, 43, 176]
abbrev dktX12_test_1 : List UInt8 := dkwX12_test_1 ++ []
def dkwX12_test_0 : List UInt8 := [42, 182, 0, 114, 76, 42, 7, 182, 0, 103, 153, 0, 23, 42, 182, 0, 15, 187, 0, 117, 89, 43, 42]
abbrev dktX12_test_0 : List UInt8 := dkwX12_test_0 ++ dktX12_test_1
theorem dksX12_test_0 : cX12_test.data.toList.drop 0 = dktX12_test_0 := by decide +kernel
theorem dksX12_test_1 : cX12_test.data.toList.drop 23 = dktX12_test_1 := dk_seg dksX12_test_0 23 rfl rfl
theorem dX12_test_0 : decode cX12_test 0 = .ok (.aload_n 0, 1) := dk_42 (dk_at dksX12_test_0 0 rfl rfl)
theorem dX12_test_1 : decode cX12_test 1 = .ok (.invokevirtual 114, 3) := dk_182 0 114 (dk_at dksX12_test_0 1 rfl rfl)
theorem dX12_test_4 : decode cX12_test 4 = .ok (.astore_n 1, 1) := dk_76 (dk_at dksX12_test_0 4 rfl rfl)
theorem dX12_test_5 : decode cX12_test 5 = .ok (.aload_n 0, 1) := dk_42 (dk_at dksX12_test_0 5 rfl rfl)
theorem dX12_test_6 : decode cX12_test 6 = .ok (.iconst 4, 1) := dk_7 (dk_at dksX12_test_0 6 rfl rfl)
theorem dX12_test_7 : decode cX12_test 7 = .ok (.invokevirtual 103, 3) := dk_182 0 103 (dk_at dksX12_test_0 7 rfl rfl)
theorem dX12_test_10 : decode cX12_test 10 = .ok (.ifCond .eq 23, 3) := dk_153 0 23 (dk_at dksX12_test_0 10 rfl rfl)
theorem dX12_test_13 : decode cX12_test 13 = .ok (.aload_n 0, 1) := dk_42 (dk_at dksX12_test_0 13 rfl rfl)
theorem dX12_test_14 : decode cX12_test 14 = .ok (.invokevirtual 15, 3) := dk_182 0 15 (dk_at dksX12_test_0 14 rfl rfl)
theorem dX12_test_17 : decode cX12_test 17 = .ok (.new 117, 3) := dk_187 0 117 (dk_at dksX12_test_0 17 rfl rfl)
theorem dX12_test_20 : decode cX12_test 20 = .ok (.dup, 1) := dk_89 (dk_at dksX12_test_0 20 rfl rfl)
theorem dX12_test_21 : decode cX12_test 21 = .ok (.aload_n 1, 1) := dk_43 (dk_at dksX12_test_0 21 rfl rfl)
theorem dX12_test_22 : decode cX12_test 22 = .ok (.aload_n 0, 1) := dk_42 (dk_at dksX12_test_0 22 rfl rfl)
theorem dX12_test_23 : decode cX12_test 23 = .ok (.invokevirtual 114, 3) := dk_182 0 114 (dk_at dksX12_test_1 0 rfl rfl)
theorem dX12_test_26 : decode cX12_test 26 = .ok (.invokespecial 119, 3) := dk_183 0 119 (dk_at dksX12_test_1 3 rfl rfl)
theorem dX12_test_29 : decode cX12_test 29 = .ok (.astore_n 1, 1) := dk_76 (dk_at dksX12_test_1 6 rfl rfl)
theorem dX12_test_30 : decode cX12_test 30 = .ok (.goto (-25), 3) := dk_167 255 231 (dk_at dksX12_test_1 7 rfl rfl)
theorem dX12_test_33 : decode cX12_test 33 = .ok (.aload_n 1, 1) := dk_43 (dk_at dksX12_test_1 10 rfl rfl)
theorem dX12_test_34 : decode cX12_test 34 = .ok (.areturn, 1) := dk_176 (dk_at dksX12_test_1 11 rfl rfl)
abbrev cX12_conjunction : ByteArray := prog_13_method_13_code
def yX12_conjunction : MethodName := ⟨RX12, "conjunction", "()LValleyGuides$Part;"⟩
def dkwX12_conjunction_1 : List UInt8 := [182, 0, 122, 183, 0, 127, 76, 167, 255, 231, 43, 176]
abbrev dktX12_conjunction_1 : List UInt8 := dkwX12_conjunction_1 ++ []
def dkwX12_conjunction_0 : List UInt8 := [42, 182, 0, 122, 76, 42, 8, 182, 0, 103, 153, 0, 23, 42, 182, 0, 15, 187, 0, 125, 89, 43, 42]
abbrev dktX12_conjunction_0 : List UInt8 := dkwX12_conjunction_0 ++ dktX12_conjunction_1
theorem dksX12_conjunction_0 : cX12_conjunction.data.toList.drop 0 = dktX12_conjunction_0 := by decide +kernel
theorem dksX12_conjunction_1 : cX12_conjunction.data.toList.drop 23 = dktX12_conjunction_1 := dk_seg dksX12_conjunction_0 23 rfl rfl
theorem dX12_conjunction_0 : decode cX12_conjunction 0 = .ok (.aload_n 0, 1) := dk_42 (dk_at dksX12_conjunction_0 0 rfl rfl)
theorem dX12_conjunction_1 : decode cX12_conjunction 1 = .ok (.invokevirtual 122, 3) := dk_182 0 122 (dk_at dksX12_conjunction_0 1 rfl rfl)
theorem dX12_conjunction_4 : decode cX12_conjunction 4 = .ok (.astore_n 1, 1) := dk_76 (dk_at dksX12_conjunction_0 4 rfl rfl)
theorem dX12_conjunction_5 : decode cX12_conjunction 5 = .ok (.aload_n 0, 1) := dk_42 (dk_at dksX12_conjunction_0 5 rfl rfl)
theorem dX12_conjunction_6 : decode cX12_conjunction 6 = .ok (.iconst 5, 1) := dk_8 (dk_at dksX12_conjunction_0 6 rfl rfl)
theorem dX12_conjunction_7 : decode cX12_conjunction 7 = .ok (.invokevirtual 103, 3) := dk_182 0 103 (dk_at dksX12_conjunction_0 7 rfl rfl)
theorem dX12_conjunction_10 : decode cX12_conjunction 10 = .ok (.ifCond .eq 23, 3) := dk_153 0 23 (dk_at dksX12_conjunction_0 10 rfl rfl)
theorem dX12_conjunction_13 : decode cX12_conjunction 13 = .ok (.aload_n 0, 1) := dk_42 (dk_at dksX12_conjunction_0 13 rfl rfl)
theorem dX12_conjunction_14 : decode cX12_conjunction 14 = .ok (.invokevirtual 15, 3) := dk_182 0 15 (dk_at dksX12_conjunction_0 14 rfl rfl)
theorem dX12_conjunction_17 : decode cX12_conjunction 17 = .ok (.new 125, 3) := dk_187 0 125 (dk_at dksX12_conjunction_0 17 rfl rfl)
theorem dX12_conjunction_20 : decode cX12_conjunction 20 = .ok (.dup, 1) := dk_89 (dk_at dksX12_conjunction_0 20 rfl rfl)
theorem dX12_conjunction_21 : decode cX12_conjunction 21 = .ok (.aload_n 1, 1) := dk_43 (dk_at dksX12_conjunction_0 21 rfl rfl)
theorem dX12_conjunction_22 : decode cX12_conjunction 22 = .ok (.aload_n 0, 1) := dk_42 (dk_at dksX12_conjunction_0 22 rfl rfl)
theorem dX12_conjunction_23 : decode cX12_conjunction 23 = .ok (.invokevirtual 122, 3) := dk_182 0 122 (dk_at dksX12_conjunction_1 0 rfl rfl)
theorem dX12_conjunction_26 : decode cX12_conjunction 26 = .ok (.invokespecial 127, 3) := dk_183 0 127 (dk_at dksX12_conjunction_1 3 rfl rfl)
theorem dX12_conjunction_29 : decode cX12_conjunction 29 = .ok (.astore_n 1, 1) := dk_76 (dk_at dksX12_conjunction_1 6 rfl rfl)
theorem dX12_conjunction_30 : decode cX12_conjunction 30 = .ok (.goto (-25), 3) := dk_167 255 231 (dk_at dksX12_conjunction_1 7 rfl rfl)
theorem dX12_conjunction_33 : decode cX12_conjunction 33 = .ok (.aload_n 1, 1) := dk_43 (dk_at dksX12_conjunction_1 10 rfl rfl)
theorem dX12_conjunction_34 : decode cX12_conjunction 34 = .ok (.areturn, 1) := dk_176 (dk_at dksX12_conjunction_1 11 rfl rfl)
abbrev cX12_one : ByteArray := prog_13_method_11_code
def yX12_one : MethodName := ⟨RX12, "one", "()LValleyGuides$Part;"⟩
def dkwX12_one_4 : List UInt8 := [27, 153, 0, 15, 187, 0, 109, 89, 25, 4, 183, 0, 111, 167, 0, 5, 25, 4, 176]
abbrev dktX12_one_4 : List UInt8 := dkwX12_one_4 ++ []
def dkwX12_one_3 : List UInt8 := [42, 180, 0, 44, 62, 42, 182, 0, 15, 187, 0, 106, 89, 44, 42, 182, 0, 89, 29, 183, 0, 108, 58, 4]
abbrev dktX12_one_3 : List UInt8 := dkwX12_one_3 ++ dktX12_one_4
def dkwX12_one_2 : List UInt8 := [182, 0, 82, 154, 0, 12, 42, 16, 61, 182, 0, 82, 153, 0, 7, 4, 167, 0, 4, 3, 5, 182, 0, 66]
abbrev dktX12_one_2 : List UInt8 := dkwX12_one_2 ++ dktX12_one_3
def dkwX12_one_1 : List UInt8 := [182, 0, 15, 167, 255, 233, 42, 182, 0, 89, 77, 42, 42, 16, 60, 182, 0, 82, 154, 0, 21, 42, 16, 62]
abbrev dktX12_one_1 : List UInt8 := dkwX12_one_1 ++ dktX12_one_2
def dkwX12_one_0 : List UInt8 := [3, 60, 42, 16, 6, 182, 0, 103, 153, 0, 20, 27, 154, 0, 7, 4, 167, 0, 4, 3, 60, 42]
abbrev dktX12_one_0 : List UInt8 := dkwX12_one_0 ++ dktX12_one_1
theorem dksX12_one_0 : cX12_one.data.toList.drop 0 = dktX12_one_0 := by decide +kernel
theorem dksX12_one_1 : cX12_one.data.toList.drop 22 = dktX12_one_1 := dk_seg dksX12_one_0 22 rfl rfl
theorem dksX12_one_2 : cX12_one.data.toList.drop 46 = dktX12_one_2 := dk_seg dksX12_one_1 24 rfl rfl
theorem dksX12_one_3 : cX12_one.data.toList.drop 70 = dktX12_one_3 := dk_seg dksX12_one_2 24 rfl rfl
theorem dksX12_one_4 : cX12_one.data.toList.drop 94 = dktX12_one_4 := dk_seg dksX12_one_3 24 rfl rfl
theorem dX12_one_0 : decode cX12_one 0 = .ok (.iconst 0, 1) := dk_3 (dk_at dksX12_one_0 0 rfl rfl)
theorem dX12_one_1 : decode cX12_one 1 = .ok (.istore_n 1, 1) := dk_60 (dk_at dksX12_one_0 1 rfl rfl)
theorem dX12_one_2 : decode cX12_one 2 = .ok (.aload_n 0, 1) := dk_42 (dk_at dksX12_one_0 2 rfl rfl)
theorem dX12_one_3 : decode cX12_one 3 = .ok (.bipush 6, 2) := dk_16 6 (dk_at dksX12_one_0 3 rfl rfl)
theorem dX12_one_5 : decode cX12_one 5 = .ok (.invokevirtual 103, 3) := dk_182 0 103 (dk_at dksX12_one_0 5 rfl rfl)
theorem dX12_one_8 : decode cX12_one 8 = .ok (.ifCond .eq 20, 3) := dk_153 0 20 (dk_at dksX12_one_0 8 rfl rfl)
theorem dX12_one_11 : decode cX12_one 11 = .ok (.iload_n 1, 1) := dk_27 (dk_at dksX12_one_0 11 rfl rfl)
theorem dX12_one_12 : decode cX12_one 12 = .ok (.ifCond .ne 7, 3) := dk_154 0 7 (dk_at dksX12_one_0 12 rfl rfl)
theorem dX12_one_15 : decode cX12_one 15 = .ok (.iconst 1, 1) := dk_4 (dk_at dksX12_one_0 15 rfl rfl)
theorem dX12_one_16 : decode cX12_one 16 = .ok (.goto 4, 3) := dk_167 0 4 (dk_at dksX12_one_0 16 rfl rfl)
theorem dX12_one_19 : decode cX12_one 19 = .ok (.iconst 0, 1) := dk_3 (dk_at dksX12_one_0 19 rfl rfl)
theorem dX12_one_20 : decode cX12_one 20 = .ok (.istore_n 1, 1) := dk_60 (dk_at dksX12_one_0 20 rfl rfl)
theorem dX12_one_21 : decode cX12_one 21 = .ok (.aload_n 0, 1) := dk_42 (dk_at dksX12_one_0 21 rfl rfl)
theorem dX12_one_22 : decode cX12_one 22 = .ok (.invokevirtual 15, 3) := dk_182 0 15 (dk_at dksX12_one_1 0 rfl rfl)
theorem dX12_one_25 : decode cX12_one 25 = .ok (.goto (-23), 3) := dk_167 255 233 (dk_at dksX12_one_1 3 rfl rfl)
theorem dX12_one_28 : decode cX12_one 28 = .ok (.aload_n 0, 1) := dk_42 (dk_at dksX12_one_1 6 rfl rfl)
theorem dX12_one_29 : decode cX12_one 29 = .ok (.invokevirtual 89, 3) := dk_182 0 89 (dk_at dksX12_one_1 7 rfl rfl)
theorem dX12_one_32 : decode cX12_one 32 = .ok (.astore_n 2, 1) := dk_77 (dk_at dksX12_one_1 10 rfl rfl)
theorem dX12_one_33 : decode cX12_one 33 = .ok (.aload_n 0, 1) := dk_42 (dk_at dksX12_one_1 11 rfl rfl)
theorem dX12_one_34 : decode cX12_one 34 = .ok (.aload_n 0, 1) := dk_42 (dk_at dksX12_one_1 12 rfl rfl)
theorem dX12_one_35 : decode cX12_one 35 = .ok (.bipush 60, 2) := dk_16 60 (dk_at dksX12_one_1 13 rfl rfl)
theorem dX12_one_37 : decode cX12_one 37 = .ok (.invokevirtual 82, 3) := dk_182 0 82 (dk_at dksX12_one_1 15 rfl rfl)
theorem dX12_one_40 : decode cX12_one 40 = .ok (.ifCond .ne 21, 3) := dk_154 0 21 (dk_at dksX12_one_1 18 rfl rfl)
theorem dX12_one_43 : decode cX12_one 43 = .ok (.aload_n 0, 1) := dk_42 (dk_at dksX12_one_1 21 rfl rfl)
theorem dX12_one_44 : decode cX12_one 44 = .ok (.bipush 62, 2) := dk_16 62 (dk_at dksX12_one_1 22 rfl rfl)
theorem dX12_one_46 : decode cX12_one 46 = .ok (.invokevirtual 82, 3) := dk_182 0 82 (dk_at dksX12_one_2 0 rfl rfl)
theorem dX12_one_49 : decode cX12_one 49 = .ok (.ifCond .ne 12, 3) := dk_154 0 12 (dk_at dksX12_one_2 3 rfl rfl)
theorem dX12_one_52 : decode cX12_one 52 = .ok (.aload_n 0, 1) := dk_42 (dk_at dksX12_one_2 6 rfl rfl)
theorem dX12_one_53 : decode cX12_one 53 = .ok (.bipush 61, 2) := dk_16 61 (dk_at dksX12_one_2 7 rfl rfl)
theorem dX12_one_55 : decode cX12_one 55 = .ok (.invokevirtual 82, 3) := dk_182 0 82 (dk_at dksX12_one_2 9 rfl rfl)
theorem dX12_one_58 : decode cX12_one 58 = .ok (.ifCond .eq 7, 3) := dk_153 0 7 (dk_at dksX12_one_2 12 rfl rfl)
theorem dX12_one_61 : decode cX12_one 61 = .ok (.iconst 1, 1) := dk_4 (dk_at dksX12_one_2 15 rfl rfl)
theorem dX12_one_62 : decode cX12_one 62 = .ok (.goto 4, 3) := dk_167 0 4 (dk_at dksX12_one_2 16 rfl rfl)
theorem dX12_one_65 : decode cX12_one 65 = .ok (.iconst 0, 1) := dk_3 (dk_at dksX12_one_2 19 rfl rfl)
theorem dX12_one_66 : decode cX12_one 66 = .ok (.iconst 2, 1) := dk_5 (dk_at dksX12_one_2 20 rfl rfl)
theorem dX12_one_67 : decode cX12_one 67 = .ok (.invokevirtual 66, 3) := dk_182 0 66 (dk_at dksX12_one_2 21 rfl rfl)
theorem dX12_one_70 : decode cX12_one 70 = .ok (.aload_n 0, 1) := dk_42 (dk_at dksX12_one_3 0 rfl rfl)
theorem dX12_one_71 : decode cX12_one 71 = .ok (.getfield 44, 3) := dk_180 0 44 (dk_at dksX12_one_3 1 rfl rfl)
theorem dX12_one_74 : decode cX12_one 74 = .ok (.istore_n 3, 1) := dk_62 (dk_at dksX12_one_3 4 rfl rfl)
theorem dX12_one_75 : decode cX12_one 75 = .ok (.aload_n 0, 1) := dk_42 (dk_at dksX12_one_3 5 rfl rfl)
theorem dX12_one_76 : decode cX12_one 76 = .ok (.invokevirtual 15, 3) := dk_182 0 15 (dk_at dksX12_one_3 6 rfl rfl)
theorem dX12_one_79 : decode cX12_one 79 = .ok (.new 106, 3) := dk_187 0 106 (dk_at dksX12_one_3 9 rfl rfl)
theorem dX12_one_82 : decode cX12_one 82 = .ok (.dup, 1) := dk_89 (dk_at dksX12_one_3 12 rfl rfl)
theorem dX12_one_83 : decode cX12_one 83 = .ok (.aload_n 2, 1) := dk_44 (dk_at dksX12_one_3 13 rfl rfl)
theorem dX12_one_84 : decode cX12_one 84 = .ok (.aload_n 0, 1) := dk_42 (dk_at dksX12_one_3 14 rfl rfl)
theorem dX12_one_85 : decode cX12_one 85 = .ok (.invokevirtual 89, 3) := dk_182 0 89 (dk_at dksX12_one_3 15 rfl rfl)
theorem dX12_one_88 : decode cX12_one 88 = .ok (.iload_n 3, 1) := dk_29 (dk_at dksX12_one_3 18 rfl rfl)
theorem dX12_one_89 : decode cX12_one 89 = .ok (.invokespecial 108, 3) := dk_183 0 108 (dk_at dksX12_one_3 19 rfl rfl)
theorem dX12_one_92 : decode cX12_one 92 = .ok (.astore 4, 2) := dk_58 4 (dk_at dksX12_one_3 22 rfl rfl)
theorem dX12_one_94 : decode cX12_one 94 = .ok (.iload_n 1, 1) := dk_27 (dk_at dksX12_one_4 0 rfl rfl)
theorem dX12_one_95 : decode cX12_one 95 = .ok (.ifCond .eq 15, 3) := dk_153 0 15 (dk_at dksX12_one_4 1 rfl rfl)
theorem dX12_one_98 : decode cX12_one 98 = .ok (.new 109, 3) := dk_187 0 109 (dk_at dksX12_one_4 4 rfl rfl)
theorem dX12_one_101 : decode cX12_one 101 = .ok (.dup, 1) := dk_89 (dk_at dksX12_one_4 7 rfl rfl)
theorem dX12_one_102 : decode cX12_one 102 = .ok (.aload 4, 2) := dk_25 4 (dk_at dksX12_one_4 8 rfl rfl)
theorem dX12_one_104 : decode cX12_one 104 = .ok (.invokespecial 111, 3) := dk_183 0 111 (dk_at dksX12_one_4 10 rfl rfl)
theorem dX12_one_107 : decode cX12_one 107 = .ok (.goto 5, 3) := dk_167 0 5 (dk_at dksX12_one_4 13 rfl rfl)
theorem dX12_one_110 : decode cX12_one 110 = .ok (.aload 4, 2) := dk_25 4 (dk_at dksX12_one_4 16 rfl rfl)
theorem dX12_one_112 : decode cX12_one 112 = .ok (.areturn, 1) := dk_176 (dk_at dksX12_one_4 18 rfl rfl)
abbrev cX12_isName : ByteArray := prog_13_method_7_code
def yX12_isName : MethodName := ⟨RX12, "isName", "(I)Z"⟩
def dkwX12_isName_0 : List UInt8 := [42, 180, 0, 47, 4, 160, 0, 15, 42, 180, 0, 44, 27, 160, 0, 7, 4, 167, 0, 4, 3, 172]
abbrev dktX12_isName_0 : List UInt8 := dkwX12_isName_0 ++ []
theorem dksX12_isName_0 : cX12_isName.data.toList.drop 0 = dktX12_isName_0 := by decide +kernel
theorem dX12_isName_0 : decode cX12_isName 0 = .ok (.aload_n 0, 1) := dk_42 (dk_at dksX12_isName_0 0 rfl rfl)
theorem dX12_isName_1 : decode cX12_isName 1 = .ok (.getfield 47, 3) := dk_180 0 47 (dk_at dksX12_isName_0 1 rfl rfl)
theorem dX12_isName_4 : decode cX12_isName 4 = .ok (.iconst 1, 1) := dk_4 (dk_at dksX12_isName_0 4 rfl rfl)
theorem dX12_isName_5 : decode cX12_isName 5 = .ok (.if_icmp .ne 15, 3) := dk_160 0 15 (dk_at dksX12_isName_0 5 rfl rfl)
theorem dX12_isName_8 : decode cX12_isName 8 = .ok (.aload_n 0, 1) := dk_42 (dk_at dksX12_isName_0 8 rfl rfl)
theorem dX12_isName_9 : decode cX12_isName 9 = .ok (.getfield 44, 3) := dk_180 0 44 (dk_at dksX12_isName_0 9 rfl rfl)
theorem dX12_isName_12 : decode cX12_isName 12 = .ok (.iload_n 1, 1) := dk_27 (dk_at dksX12_isName_0 12 rfl rfl)
theorem dX12_isName_13 : decode cX12_isName 13 = .ok (.if_icmp .ne 7, 3) := dk_160 0 7 (dk_at dksX12_isName_0 13 rfl rfl)
theorem dX12_isName_16 : decode cX12_isName 16 = .ok (.iconst 1, 1) := dk_4 (dk_at dksX12_isName_0 16 rfl rfl)
theorem dX12_isName_17 : decode cX12_isName 17 = .ok (.goto 4, 3) := dk_167 0 4 (dk_at dksX12_isName_0 17 rfl rfl)
theorem dX12_isName_20 : decode cX12_isName 20 = .ok (.iconst 0, 1) := dk_3 (dk_at dksX12_isName_0 20 rfl rfl)
theorem dX12_isName_21 : decode cX12_isName 21 = .ok (.ireturn, 1) := dk_172 (dk_at dksX12_isName_0 21 rfl rfl)
abbrev cX12_sum : ByteArray := prog_13_method_10_code
def yX12_sum : MethodName := ⟨RX12, "sum", "()LValleyGuides$Part;"⟩
def dkwX12_sum_2 : List UInt8 := [167, 255, 215, 43, 176]
abbrev dktX12_sum_2 : List UInt8 := dkwX12_sum_2 ++ []
def dkwX12_sum_1 : List UInt8 := [180, 0, 44, 61, 42, 182, 0, 15, 187, 0, 95, 89, 43, 42, 182, 0, 100, 28, 183, 0, 97, 76]
abbrev dktX12_sum_1 : List UInt8 := dkwX12_sum_1 ++ dktX12_sum_2
def dkwX12_sum_0 : List UInt8 := [42, 182, 0, 100, 76, 42, 16, 43, 182, 0, 82, 154, 0, 12, 42, 16, 45, 182, 0, 82, 153, 0, 29, 42]
abbrev dktX12_sum_0 : List UInt8 := dkwX12_sum_0 ++ dktX12_sum_1
theorem dksX12_sum_0 : cX12_sum.data.toList.drop 0 = dktX12_sum_0 := by decide +kernel
theorem dksX12_sum_1 : cX12_sum.data.toList.drop 24 = dktX12_sum_1 := dk_seg dksX12_sum_0 24 rfl rfl
theorem dksX12_sum_2 : cX12_sum.data.toList.drop 46 = dktX12_sum_2 := dk_seg dksX12_sum_1 22 rfl rfl
theorem dX12_sum_0 : decode cX12_sum 0 = .ok (.aload_n 0, 1) := dk_42 (dk_at dksX12_sum_0 0 rfl rfl)
theorem dX12_sum_1 : decode cX12_sum 1 = .ok (.invokevirtual 100, 3) := dk_182 0 100 (dk_at dksX12_sum_0 1 rfl rfl)
theorem dX12_sum_4 : decode cX12_sum 4 = .ok (.astore_n 1, 1) := dk_76 (dk_at dksX12_sum_0 4 rfl rfl)
theorem dX12_sum_5 : decode cX12_sum 5 = .ok (.aload_n 0, 1) := dk_42 (dk_at dksX12_sum_0 5 rfl rfl)
theorem dX12_sum_6 : decode cX12_sum 6 = .ok (.bipush 43, 2) := dk_16 43 (dk_at dksX12_sum_0 6 rfl rfl)
theorem dX12_sum_8 : decode cX12_sum 8 = .ok (.invokevirtual 82, 3) := dk_182 0 82 (dk_at dksX12_sum_0 8 rfl rfl)
theorem dX12_sum_11 : decode cX12_sum 11 = .ok (.ifCond .ne 12, 3) := dk_154 0 12 (dk_at dksX12_sum_0 11 rfl rfl)
theorem dX12_sum_14 : decode cX12_sum 14 = .ok (.aload_n 0, 1) := dk_42 (dk_at dksX12_sum_0 14 rfl rfl)
theorem dX12_sum_15 : decode cX12_sum 15 = .ok (.bipush 45, 2) := dk_16 45 (dk_at dksX12_sum_0 15 rfl rfl)
theorem dX12_sum_17 : decode cX12_sum 17 = .ok (.invokevirtual 82, 3) := dk_182 0 82 (dk_at dksX12_sum_0 17 rfl rfl)
theorem dX12_sum_20 : decode cX12_sum 20 = .ok (.ifCond .eq 29, 3) := dk_153 0 29 (dk_at dksX12_sum_0 20 rfl rfl)
theorem dX12_sum_23 : decode cX12_sum 23 = .ok (.aload_n 0, 1) := dk_42 (dk_at dksX12_sum_0 23 rfl rfl)
theorem dX12_sum_24 : decode cX12_sum 24 = .ok (.getfield 44, 3) := dk_180 0 44 (dk_at dksX12_sum_1 0 rfl rfl)
theorem dX12_sum_27 : decode cX12_sum 27 = .ok (.istore_n 2, 1) := dk_61 (dk_at dksX12_sum_1 3 rfl rfl)
theorem dX12_sum_28 : decode cX12_sum 28 = .ok (.aload_n 0, 1) := dk_42 (dk_at dksX12_sum_1 4 rfl rfl)
theorem dX12_sum_29 : decode cX12_sum 29 = .ok (.invokevirtual 15, 3) := dk_182 0 15 (dk_at dksX12_sum_1 5 rfl rfl)
theorem dX12_sum_32 : decode cX12_sum 32 = .ok (.new 95, 3) := dk_187 0 95 (dk_at dksX12_sum_1 8 rfl rfl)
theorem dX12_sum_35 : decode cX12_sum 35 = .ok (.dup, 1) := dk_89 (dk_at dksX12_sum_1 11 rfl rfl)
theorem dX12_sum_36 : decode cX12_sum 36 = .ok (.aload_n 1, 1) := dk_43 (dk_at dksX12_sum_1 12 rfl rfl)
theorem dX12_sum_37 : decode cX12_sum 37 = .ok (.aload_n 0, 1) := dk_42 (dk_at dksX12_sum_1 13 rfl rfl)
theorem dX12_sum_38 : decode cX12_sum 38 = .ok (.invokevirtual 100, 3) := dk_182 0 100 (dk_at dksX12_sum_1 14 rfl rfl)
theorem dX12_sum_41 : decode cX12_sum 41 = .ok (.iload_n 2, 1) := dk_28 (dk_at dksX12_sum_1 17 rfl rfl)
theorem dX12_sum_42 : decode cX12_sum 42 = .ok (.invokespecial 97, 3) := dk_183 0 97 (dk_at dksX12_sum_1 18 rfl rfl)
theorem dX12_sum_45 : decode cX12_sum 45 = .ok (.astore_n 1, 1) := dk_76 (dk_at dksX12_sum_1 21 rfl rfl)
theorem dX12_sum_46 : decode cX12_sum 46 = .ok (.goto (-41), 3) := dk_167 255 215 (dk_at dksX12_sum_2 0 rfl rfl)
theorem dX12_sum_49 : decode cX12_sum 49 = .ok (.aload_n 1, 1) := dk_43 (dk_at dksX12_sum_2 3 rfl rfl)
theorem dX12_sum_50 : decode cX12_sum 50 = .ok (.areturn, 1) := dk_176 (dk_at dksX12_sum_2 4 rfl rfl)
abbrev cX12_product : ByteArray := prog_13_method_9_code
def yX12_product : MethodName := ⟨RX12, "product", "()LValleyGuides$Part;"⟩
def dkwX12_product_1 : List UInt8 := [182, 0, 93, 16, 42, 183, 0, 97, 76, 167, 255, 228, 43, 176]
abbrev dktX12_product_1 : List UInt8 := dkwX12_product_1 ++ []
def dkwX12_product_0 : List UInt8 := [42, 182, 0, 93, 76, 42, 16, 42, 182, 0, 82, 153, 0, 25, 42, 182, 0, 15, 187, 0, 95, 89, 43, 42]
abbrev dktX12_product_0 : List UInt8 := dkwX12_product_0 ++ dktX12_product_1
theorem dksX12_product_0 : cX12_product.data.toList.drop 0 = dktX12_product_0 := by decide +kernel
theorem dksX12_product_1 : cX12_product.data.toList.drop 24 = dktX12_product_1 := dk_seg dksX12_product_0 24 rfl rfl
theorem dX12_product_0 : decode cX12_product 0 = .ok (.aload_n 0, 1) := dk_42 (dk_at dksX12_product_0 0 rfl rfl)
theorem dX12_product_1 : decode cX12_product 1 = .ok (.invokevirtual 93, 3) := dk_182 0 93 (dk_at dksX12_product_0 1 rfl rfl)
theorem dX12_product_4 : decode cX12_product 4 = .ok (.astore_n 1, 1) := dk_76 (dk_at dksX12_product_0 4 rfl rfl)
theorem dX12_product_5 : decode cX12_product 5 = .ok (.aload_n 0, 1) := dk_42 (dk_at dksX12_product_0 5 rfl rfl)
theorem dX12_product_6 : decode cX12_product 6 = .ok (.bipush 42, 2) := dk_16 42 (dk_at dksX12_product_0 6 rfl rfl)
theorem dX12_product_8 : decode cX12_product 8 = .ok (.invokevirtual 82, 3) := dk_182 0 82 (dk_at dksX12_product_0 8 rfl rfl)
theorem dX12_product_11 : decode cX12_product 11 = .ok (.ifCond .eq 25, 3) := dk_153 0 25 (dk_at dksX12_product_0 11 rfl rfl)
theorem dX12_product_14 : decode cX12_product 14 = .ok (.aload_n 0, 1) := dk_42 (dk_at dksX12_product_0 14 rfl rfl)
theorem dX12_product_15 : decode cX12_product 15 = .ok (.invokevirtual 15, 3) := dk_182 0 15 (dk_at dksX12_product_0 15 rfl rfl)
theorem dX12_product_18 : decode cX12_product 18 = .ok (.new 95, 3) := dk_187 0 95 (dk_at dksX12_product_0 18 rfl rfl)
theorem dX12_product_21 : decode cX12_product 21 = .ok (.dup, 1) := dk_89 (dk_at dksX12_product_0 21 rfl rfl)
theorem dX12_product_22 : decode cX12_product 22 = .ok (.aload_n 1, 1) := dk_43 (dk_at dksX12_product_0 22 rfl rfl)
theorem dX12_product_23 : decode cX12_product 23 = .ok (.aload_n 0, 1) := dk_42 (dk_at dksX12_product_0 23 rfl rfl)
theorem dX12_product_24 : decode cX12_product 24 = .ok (.invokevirtual 93, 3) := dk_182 0 93 (dk_at dksX12_product_1 0 rfl rfl)
theorem dX12_product_27 : decode cX12_product 27 = .ok (.bipush 42, 2) := dk_16 42 (dk_at dksX12_product_1 3 rfl rfl)
theorem dX12_product_29 : decode cX12_product 29 = .ok (.invokespecial 97, 3) := dk_183 0 97 (dk_at dksX12_product_1 5 rfl rfl)
theorem dX12_product_32 : decode cX12_product 32 = .ok (.astore_n 1, 1) := dk_76 (dk_at dksX12_product_1 8 rfl rfl)
theorem dX12_product_33 : decode cX12_product 33 = .ok (.goto (-28), 3) := dk_167 255 228 (dk_at dksX12_product_1 9 rfl rfl)
theorem dX12_product_36 : decode cX12_product 36 = .ok (.aload_n 1, 1) := dk_43 (dk_at dksX12_product_1 12 rfl rfl)
theorem dX12_product_37 : decode cX12_product 37 = .ok (.areturn, 1) := dk_176 (dk_at dksX12_product_1 13 rfl rfl)
abbrev cX12_value : ByteArray := prog_13_method_8_code
def yX12_value : MethodName := ⟨RX12, "value", "()LValleyGuides$Part;"⟩
def dkwX12_value_6 : List UInt8 := [181, 0, 86, 42, 182, 0, 15, 43, 176]
abbrev dktX12_value_6 : List UInt8 := dkwX12_value_6 ++ []
def dkwX12_value_5 : List UInt8 := [182, 0, 89, 76, 42, 42, 16, 41, 182, 0, 82, 5, 182, 0, 66, 42, 89, 180, 0, 86, 4, 100]
abbrev dktX12_value_5 : List UInt8 := dkwX12_value_5 ++ dktX12_value_6
def dkwX12_value_4 : List UInt8 := [167, 0, 4, 3, 6, 182, 0, 66, 42, 89, 180, 0, 86, 4, 96, 181, 0, 86, 42, 182, 0, 15, 42]
abbrev dktX12_value_4 : List UInt8 := dkwX12_value_4 ++ dktX12_value_5
def dkwX12_value_3 : List UInt8 := [43, 176, 42, 42, 16, 40, 182, 0, 82, 5, 182, 0, 66, 42, 42, 180, 0, 86, 16, 6, 162, 0, 7, 4]
abbrev dktX12_value_3 : List UInt8 := dkwX12_value_3 ++ dktX12_value_4
def dkwX12_value_2 : List UInt8 := [3, 5, 182, 0, 66, 187, 0, 79, 89, 42, 180, 0, 44, 16, 7, 100, 183, 0, 81, 76, 42, 182, 0, 15]
abbrev dktX12_value_2 : List UInt8 := dkwX12_value_2 ++ dktX12_value_3
def dkwX12_value_1 : List UInt8 := [43, 176, 42, 180, 0, 47, 4, 160, 0, 43, 42, 42, 180, 0, 44, 16, 7, 161, 0, 7, 4, 167, 0, 4]
abbrev dktX12_value_1 : List UInt8 := dkwX12_value_1 ++ dktX12_value_2
def dkwX12_value_0 : List UInt8 := [42, 180, 0, 47, 5, 160, 0, 21, 187, 0, 74, 89, 42, 180, 0, 44, 183, 0, 76, 76, 42, 182, 0, 15]
abbrev dktX12_value_0 : List UInt8 := dkwX12_value_0 ++ dktX12_value_1
theorem dksX12_value_0 : cX12_value.data.toList.drop 0 = dktX12_value_0 := by decide +kernel
theorem dksX12_value_1 : cX12_value.data.toList.drop 24 = dktX12_value_1 := dk_seg dksX12_value_0 24 rfl rfl
theorem dksX12_value_2 : cX12_value.data.toList.drop 48 = dktX12_value_2 := dk_seg dksX12_value_1 24 rfl rfl
theorem dksX12_value_3 : cX12_value.data.toList.drop 72 = dktX12_value_3 := dk_seg dksX12_value_2 24 rfl rfl
theorem dksX12_value_4 : cX12_value.data.toList.drop 96 = dktX12_value_4 := dk_seg dksX12_value_3 24 rfl rfl
theorem dksX12_value_5 : cX12_value.data.toList.drop 119 = dktX12_value_5 := dk_seg dksX12_value_4 23 rfl rfl
theorem dksX12_value_6 : cX12_value.data.toList.drop 141 = dktX12_value_6 := dk_seg dksX12_value_5 22 rfl rfl
theorem dX12_value_0 : decode cX12_value 0 = .ok (.aload_n 0, 1) := dk_42 (dk_at dksX12_value_0 0 rfl rfl)
theorem dX12_value_1 : decode cX12_value 1 = .ok (.getfield 47, 3) := dk_180 0 47 (dk_at dksX12_value_0 1 rfl rfl)
theorem dX12_value_4 : decode cX12_value 4 = .ok (.iconst 2, 1) := dk_5 (dk_at dksX12_value_0 4 rfl rfl)
theorem dX12_value_5 : decode cX12_value 5 = .ok (.if_icmp .ne 21, 3) := dk_160 0 21 (dk_at dksX12_value_0 5 rfl rfl)
theorem dX12_value_8 : decode cX12_value 8 = .ok (.new 74, 3) := dk_187 0 74 (dk_at dksX12_value_0 8 rfl rfl)
theorem dX12_value_11 : decode cX12_value 11 = .ok (.dup, 1) := dk_89 (dk_at dksX12_value_0 11 rfl rfl)
theorem dX12_value_12 : decode cX12_value 12 = .ok (.aload_n 0, 1) := dk_42 (dk_at dksX12_value_0 12 rfl rfl)
theorem dX12_value_13 : decode cX12_value 13 = .ok (.getfield 44, 3) := dk_180 0 44 (dk_at dksX12_value_0 13 rfl rfl)
theorem dX12_value_16 : decode cX12_value 16 = .ok (.invokespecial 76, 3) := dk_183 0 76 (dk_at dksX12_value_0 16 rfl rfl)
theorem dX12_value_19 : decode cX12_value 19 = .ok (.astore_n 1, 1) := dk_76 (dk_at dksX12_value_0 19 rfl rfl)
theorem dX12_value_20 : decode cX12_value 20 = .ok (.aload_n 0, 1) := dk_42 (dk_at dksX12_value_0 20 rfl rfl)
theorem dX12_value_21 : decode cX12_value 21 = .ok (.invokevirtual 15, 3) := dk_182 0 15 (dk_at dksX12_value_0 21 rfl rfl)
theorem dX12_value_24 : decode cX12_value 24 = .ok (.aload_n 1, 1) := dk_43 (dk_at dksX12_value_1 0 rfl rfl)
theorem dX12_value_25 : decode cX12_value 25 = .ok (.areturn, 1) := dk_176 (dk_at dksX12_value_1 1 rfl rfl)
theorem dX12_value_26 : decode cX12_value 26 = .ok (.aload_n 0, 1) := dk_42 (dk_at dksX12_value_1 2 rfl rfl)
theorem dX12_value_27 : decode cX12_value 27 = .ok (.getfield 47, 3) := dk_180 0 47 (dk_at dksX12_value_1 3 rfl rfl)
theorem dX12_value_30 : decode cX12_value 30 = .ok (.iconst 1, 1) := dk_4 (dk_at dksX12_value_1 6 rfl rfl)
theorem dX12_value_31 : decode cX12_value 31 = .ok (.if_icmp .ne 43, 3) := dk_160 0 43 (dk_at dksX12_value_1 7 rfl rfl)
theorem dX12_value_34 : decode cX12_value 34 = .ok (.aload_n 0, 1) := dk_42 (dk_at dksX12_value_1 10 rfl rfl)
theorem dX12_value_35 : decode cX12_value 35 = .ok (.aload_n 0, 1) := dk_42 (dk_at dksX12_value_1 11 rfl rfl)
theorem dX12_value_36 : decode cX12_value 36 = .ok (.getfield 44, 3) := dk_180 0 44 (dk_at dksX12_value_1 12 rfl rfl)
theorem dX12_value_39 : decode cX12_value 39 = .ok (.bipush 7, 2) := dk_16 7 (dk_at dksX12_value_1 15 rfl rfl)
theorem dX12_value_41 : decode cX12_value 41 = .ok (.if_icmp .lt 7, 3) := dk_161 0 7 (dk_at dksX12_value_1 17 rfl rfl)
theorem dX12_value_44 : decode cX12_value 44 = .ok (.iconst 1, 1) := dk_4 (dk_at dksX12_value_1 20 rfl rfl)
theorem dX12_value_45 : decode cX12_value 45 = .ok (.goto 4, 3) := dk_167 0 4 (dk_at dksX12_value_1 21 rfl rfl)
theorem dX12_value_48 : decode cX12_value 48 = .ok (.iconst 0, 1) := dk_3 (dk_at dksX12_value_2 0 rfl rfl)
theorem dX12_value_49 : decode cX12_value 49 = .ok (.iconst 2, 1) := dk_5 (dk_at dksX12_value_2 1 rfl rfl)
theorem dX12_value_50 : decode cX12_value 50 = .ok (.invokevirtual 66, 3) := dk_182 0 66 (dk_at dksX12_value_2 2 rfl rfl)
theorem dX12_value_53 : decode cX12_value 53 = .ok (.new 79, 3) := dk_187 0 79 (dk_at dksX12_value_2 5 rfl rfl)
theorem dX12_value_56 : decode cX12_value 56 = .ok (.dup, 1) := dk_89 (dk_at dksX12_value_2 8 rfl rfl)
theorem dX12_value_57 : decode cX12_value 57 = .ok (.aload_n 0, 1) := dk_42 (dk_at dksX12_value_2 9 rfl rfl)
theorem dX12_value_58 : decode cX12_value 58 = .ok (.getfield 44, 3) := dk_180 0 44 (dk_at dksX12_value_2 10 rfl rfl)
theorem dX12_value_61 : decode cX12_value 61 = .ok (.bipush 7, 2) := dk_16 7 (dk_at dksX12_value_2 13 rfl rfl)
theorem dX12_value_63 : decode cX12_value 63 = .ok (.isub, 1) := dk_100 (dk_at dksX12_value_2 15 rfl rfl)
theorem dX12_value_64 : decode cX12_value 64 = .ok (.invokespecial 81, 3) := dk_183 0 81 (dk_at dksX12_value_2 16 rfl rfl)
theorem dX12_value_67 : decode cX12_value 67 = .ok (.astore_n 1, 1) := dk_76 (dk_at dksX12_value_2 19 rfl rfl)
theorem dX12_value_68 : decode cX12_value 68 = .ok (.aload_n 0, 1) := dk_42 (dk_at dksX12_value_2 20 rfl rfl)
theorem dX12_value_69 : decode cX12_value 69 = .ok (.invokevirtual 15, 3) := dk_182 0 15 (dk_at dksX12_value_2 21 rfl rfl)
theorem dX12_value_72 : decode cX12_value 72 = .ok (.aload_n 1, 1) := dk_43 (dk_at dksX12_value_3 0 rfl rfl)
theorem dX12_value_73 : decode cX12_value 73 = .ok (.areturn, 1) := dk_176 (dk_at dksX12_value_3 1 rfl rfl)
theorem dX12_value_74 : decode cX12_value 74 = .ok (.aload_n 0, 1) := dk_42 (dk_at dksX12_value_3 2 rfl rfl)
theorem dX12_value_75 : decode cX12_value 75 = .ok (.aload_n 0, 1) := dk_42 (dk_at dksX12_value_3 3 rfl rfl)
theorem dX12_value_76 : decode cX12_value 76 = .ok (.bipush 40, 2) := dk_16 40 (dk_at dksX12_value_3 4 rfl rfl)
theorem dX12_value_78 : decode cX12_value 78 = .ok (.invokevirtual 82, 3) := dk_182 0 82 (dk_at dksX12_value_3 6 rfl rfl)
theorem dX12_value_81 : decode cX12_value 81 = .ok (.iconst 2, 1) := dk_5 (dk_at dksX12_value_3 9 rfl rfl)
theorem dX12_value_82 : decode cX12_value 82 = .ok (.invokevirtual 66, 3) := dk_182 0 66 (dk_at dksX12_value_3 10 rfl rfl)
theorem dX12_value_85 : decode cX12_value 85 = .ok (.aload_n 0, 1) := dk_42 (dk_at dksX12_value_3 13 rfl rfl)
theorem dX12_value_86 : decode cX12_value 86 = .ok (.aload_n 0, 1) := dk_42 (dk_at dksX12_value_3 14 rfl rfl)
theorem dX12_value_87 : decode cX12_value 87 = .ok (.getfield 86, 3) := dk_180 0 86 (dk_at dksX12_value_3 15 rfl rfl)
theorem dX12_value_90 : decode cX12_value 90 = .ok (.bipush 6, 2) := dk_16 6 (dk_at dksX12_value_3 18 rfl rfl)
theorem dX12_value_92 : decode cX12_value 92 = .ok (.if_icmp .ge 7, 3) := dk_162 0 7 (dk_at dksX12_value_3 20 rfl rfl)
theorem dX12_value_95 : decode cX12_value 95 = .ok (.iconst 1, 1) := dk_4 (dk_at dksX12_value_3 23 rfl rfl)
theorem dX12_value_96 : decode cX12_value 96 = .ok (.goto 4, 3) := dk_167 0 4 (dk_at dksX12_value_4 0 rfl rfl)
theorem dX12_value_99 : decode cX12_value 99 = .ok (.iconst 0, 1) := dk_3 (dk_at dksX12_value_4 3 rfl rfl)
theorem dX12_value_100 : decode cX12_value 100 = .ok (.iconst 3, 1) := dk_6 (dk_at dksX12_value_4 4 rfl rfl)
theorem dX12_value_101 : decode cX12_value 101 = .ok (.invokevirtual 66, 3) := dk_182 0 66 (dk_at dksX12_value_4 5 rfl rfl)
theorem dX12_value_104 : decode cX12_value 104 = .ok (.aload_n 0, 1) := dk_42 (dk_at dksX12_value_4 8 rfl rfl)
theorem dX12_value_105 : decode cX12_value 105 = .ok (.dup, 1) := dk_89 (dk_at dksX12_value_4 9 rfl rfl)
theorem dX12_value_106 : decode cX12_value 106 = .ok (.getfield 86, 3) := dk_180 0 86 (dk_at dksX12_value_4 10 rfl rfl)
theorem dX12_value_109 : decode cX12_value 109 = .ok (.iconst 1, 1) := dk_4 (dk_at dksX12_value_4 13 rfl rfl)
theorem dX12_value_110 : decode cX12_value 110 = .ok (.iadd, 1) := dk_96 (dk_at dksX12_value_4 14 rfl rfl)
theorem dX12_value_111 : decode cX12_value 111 = .ok (.putfield 86, 3) := dk_181 0 86 (dk_at dksX12_value_4 15 rfl rfl)
theorem dX12_value_114 : decode cX12_value 114 = .ok (.aload_n 0, 1) := dk_42 (dk_at dksX12_value_4 18 rfl rfl)
theorem dX12_value_115 : decode cX12_value 115 = .ok (.invokevirtual 15, 3) := dk_182 0 15 (dk_at dksX12_value_4 19 rfl rfl)
theorem dX12_value_118 : decode cX12_value 118 = .ok (.aload_n 0, 1) := dk_42 (dk_at dksX12_value_4 22 rfl rfl)
theorem dX12_value_119 : decode cX12_value 119 = .ok (.invokevirtual 89, 3) := dk_182 0 89 (dk_at dksX12_value_5 0 rfl rfl)
theorem dX12_value_122 : decode cX12_value 122 = .ok (.astore_n 1, 1) := dk_76 (dk_at dksX12_value_5 3 rfl rfl)
theorem dX12_value_123 : decode cX12_value 123 = .ok (.aload_n 0, 1) := dk_42 (dk_at dksX12_value_5 4 rfl rfl)
theorem dX12_value_124 : decode cX12_value 124 = .ok (.aload_n 0, 1) := dk_42 (dk_at dksX12_value_5 5 rfl rfl)
theorem dX12_value_125 : decode cX12_value 125 = .ok (.bipush 41, 2) := dk_16 41 (dk_at dksX12_value_5 6 rfl rfl)
theorem dX12_value_127 : decode cX12_value 127 = .ok (.invokevirtual 82, 3) := dk_182 0 82 (dk_at dksX12_value_5 8 rfl rfl)
theorem dX12_value_130 : decode cX12_value 130 = .ok (.iconst 2, 1) := dk_5 (dk_at dksX12_value_5 11 rfl rfl)
theorem dX12_value_131 : decode cX12_value 131 = .ok (.invokevirtual 66, 3) := dk_182 0 66 (dk_at dksX12_value_5 12 rfl rfl)
theorem dX12_value_134 : decode cX12_value 134 = .ok (.aload_n 0, 1) := dk_42 (dk_at dksX12_value_5 15 rfl rfl)
theorem dX12_value_135 : decode cX12_value 135 = .ok (.dup, 1) := dk_89 (dk_at dksX12_value_5 16 rfl rfl)
theorem dX12_value_136 : decode cX12_value 136 = .ok (.getfield 86, 3) := dk_180 0 86 (dk_at dksX12_value_5 17 rfl rfl)
theorem dX12_value_139 : decode cX12_value 139 = .ok (.iconst 1, 1) := dk_4 (dk_at dksX12_value_5 20 rfl rfl)
theorem dX12_value_140 : decode cX12_value 140 = .ok (.isub, 1) := dk_100 (dk_at dksX12_value_5 21 rfl rfl)
theorem dX12_value_141 : decode cX12_value 141 = .ok (.putfield 86, 3) := dk_181 0 86 (dk_at dksX12_value_6 0 rfl rfl)
theorem dX12_value_144 : decode cX12_value 144 = .ok (.aload_n 0, 1) := dk_42 (dk_at dksX12_value_6 3 rfl rfl)
theorem dX12_value_145 : decode cX12_value 145 = .ok (.invokevirtual 15, 3) := dk_182 0 15 (dk_at dksX12_value_6 4 rfl rfl)
theorem dX12_value_148 : decode cX12_value 148 = .ok (.aload_n 1, 1) := dk_43 (dk_at dksX12_value_6 7 rfl rfl)
theorem dX12_value_149 : decode cX12_value 149 = .ok (.areturn, 1) := dk_176 (dk_at dksX12_value_6 8 rfl rfl)
abbrev cX12_isSign : ByteArray := prog_13_method_6_code
def yX12_isSign : MethodName := ⟨RX12, "isSign", "(I)Z"⟩
def dkwX12_isSign_0 : List UInt8 := [42, 180, 0, 47, 6, 160, 0, 15, 42, 180, 0, 44, 27, 160, 0, 7, 4, 167, 0, 4, 3, 172]
abbrev dktX12_isSign_0 : List UInt8 := dkwX12_isSign_0 ++ []
theorem dksX12_isSign_0 : cX12_isSign.data.toList.drop 0 = dktX12_isSign_0 := by decide +kernel
theorem dX12_isSign_0 : decode cX12_isSign 0 = .ok (.aload_n 0, 1) := dk_42 (dk_at dksX12_isSign_0 0 rfl rfl)
theorem dX12_isSign_1 : decode cX12_isSign 1 = .ok (.getfield 47, 3) := dk_180 0 47 (dk_at dksX12_isSign_0 1 rfl rfl)
theorem dX12_isSign_4 : decode cX12_isSign 4 = .ok (.iconst 3, 1) := dk_6 (dk_at dksX12_isSign_0 4 rfl rfl)
theorem dX12_isSign_5 : decode cX12_isSign 5 = .ok (.if_icmp .ne 15, 3) := dk_160 0 15 (dk_at dksX12_isSign_0 5 rfl rfl)
theorem dX12_isSign_8 : decode cX12_isSign 8 = .ok (.aload_n 0, 1) := dk_42 (dk_at dksX12_isSign_0 8 rfl rfl)
theorem dX12_isSign_9 : decode cX12_isSign 9 = .ok (.getfield 44, 3) := dk_180 0 44 (dk_at dksX12_isSign_0 9 rfl rfl)
theorem dX12_isSign_12 : decode cX12_isSign 12 = .ok (.iload_n 1, 1) := dk_27 (dk_at dksX12_isSign_0 12 rfl rfl)
theorem dX12_isSign_13 : decode cX12_isSign 13 = .ok (.if_icmp .ne 7, 3) := dk_160 0 7 (dk_at dksX12_isSign_0 13 rfl rfl)
theorem dX12_isSign_16 : decode cX12_isSign 16 = .ok (.iconst 1, 1) := dk_4 (dk_at dksX12_isSign_0 16 rfl rfl)
theorem dX12_isSign_17 : decode cX12_isSign 17 = .ok (.goto 4, 3) := dk_167 0 4 (dk_at dksX12_isSign_0 17 rfl rfl)
theorem dX12_isSign_20 : decode cX12_isSign 20 = .ok (.iconst 0, 1) := dk_3 (dk_at dksX12_isSign_0 20 rfl rfl)
theorem dX12_isSign_21 : decode cX12_isSign 21 = .ok (.ireturn, 1) := dk_172 (dk_at dksX12_isSign_0 21 rfl rfl)
theorem q136 : (Jvm.Cond.initialized "ValleyGuides$Reader") ∈ lw_all := lw_g (lw_at lw_m1 34 rfl) rfl
theorem q385 : (Jvm.Cond.selects "ValleyGuides$Reader" ({ cls := "java/lang/Object", name := "getClass", desc := "()Ljava/lang/Class;" } : Jvm.MethodName) ({ cls := "java/lang/Object", name := "getClass", desc := "()Ljava/lang/Class;" } : Jvm.MethodName)) ∈ lw_all := lw_g (lw_at lw_m2 43 rfl) rfl
theorem q962 : (Jvm.Cond.instantiable "ValleyGuides$Reader" (6 : Nat)) ∈ lw_all := lw_g (lw_at lw_m4 140 rfl) rfl
theorem q964 : (Jvm.Cond.instanceMethod ({ cls := "ValleyGuides$Reader", name := "<init>", desc := "([B)V" } : Jvm.MethodName)) ∈ lw_all := lw_g (lw_at lw_m4 142 rfl) rfl
theorem q965 : (Jvm.Cond.code ({ cls := "ValleyGuides$Reader", name := "<init>", desc := "([B)V" } : Jvm.MethodName) prog_13_method_1_code (2 : Nat) (Option.none : Option Jvm.ClassFile.FieldType)) ∈ lw_all := lw_g (lw_at lw_m4 143 rfl) rfl
theorem q966 : (Jvm.Cond.methodLink "ValleyGuides$Reader" (3 : Nat) ({ cls := "java/lang/Object", name := "<init>", desc := "()V" } : Jvm.MethodName)) ∈ lw_all := lw_g (lw_at lw_m4 144 rfl) rfl
theorem q967 : (Jvm.Cond.methodLink "ValleyGuides$Reader" (15 : Nat) ({ cls := "ValleyGuides$Reader", name := "next", desc := "()V" } : Jvm.MethodName)) ∈ lw_all := lw_g (lw_at lw_m4 145 rfl) rfl
theorem q968 : (Jvm.Cond.privateMethod ({ cls := "ValleyGuides$Reader", name := "next", desc := "()V" } : Jvm.MethodName)) ∈ lw_tbl := lw_at lw_m4 146 rfl
theorem q969 : (Jvm.Cond.instanceMethod ({ cls := "ValleyGuides$Reader", name := "next", desc := "()V" } : Jvm.MethodName)) ∈ lw_all := lw_g (lw_at lw_m4 147 rfl) rfl
theorem q970 : (Jvm.Cond.code ({ cls := "ValleyGuides$Reader", name := "next", desc := "()V" } : Jvm.MethodName) prog_13_method_5_code (2 : Nat) (Option.none : Option Jvm.ClassFile.FieldType)) ∈ lw_all := lw_g (lw_at lw_m4 148 rfl) rfl
theorem q971 : (Jvm.Cond.methodLink "ValleyGuides$Reader" (40 : Nat) ({ cls := "ValleyGuides$Reader", name := "at", desc := "(I)I" } : Jvm.MethodName)) ∈ lw_all := lw_g (lw_at lw_m4 149 rfl) rfl
theorem q972 : (Jvm.Cond.privateMethod ({ cls := "ValleyGuides$Reader", name := "at", desc := "(I)I" } : Jvm.MethodName)) ∈ lw_tbl := lw_at lw_m4 150 rfl
theorem q973 : (Jvm.Cond.instanceMethod ({ cls := "ValleyGuides$Reader", name := "at", desc := "(I)I" } : Jvm.MethodName)) ∈ lw_all := lw_g (lw_at lw_m4 151 rfl) rfl
theorem q974 : (Jvm.Cond.code ({ cls := "ValleyGuides$Reader", name := "at", desc := "(I)I" } : Jvm.MethodName) prog_13_method_2_code (2 : Nat) (Option.some Jvm.ClassFile.FieldType.int)) ∈ lw_all := lw_g (lw_at lw_m4 152 rfl) rfl
theorem q975 : (Jvm.Cond.constantLong "ValleyGuides$Reader" (50 : Nat) (97 : Int64)) ∈ lw_all := lw_g (lw_at lw_m4 153 rfl) rfl
theorem q976 : (Jvm.Cond.constantLong "ValleyGuides$Reader" (52 : Nat) (122 : Int64)) ∈ lw_all := lw_g (lw_at lw_m4 154 rfl) rfl
theorem q977 : (Jvm.Cond.methodLinkNest "ValleyGuides$Reader" (54 : Nat) ({ cls := "ValleyGuides", name := "isIn", desc := "(JJJ)Z" } : Jvm.MethodName) "ValleyGuides") ∈ lw_tbl := lw_at lw_m4 155 rfl
theorem q978 : (Jvm.Cond.fieldLinkNest "ValleyGuides$Reader" (58 : Nat) "ValleyGuides" "NAMES" "[Ljava/lang/String;" "ValleyGuides") ∈ lw_tbl := lw_at lw_m4 156 rfl
theorem q980 : (Jvm.Cond.methodLink "ValleyGuides$Reader" (62 : Nat) ({ cls := "ValleyGuides$Reader", name := "isWord", desc := "(Ljava/lang/String;)Z" } : Jvm.MethodName)) ∈ lw_all := lw_g (lw_at lw_m4 158 rfl) rfl
theorem q981 : (Jvm.Cond.privateMethod ({ cls := "ValleyGuides$Reader", name := "isWord", desc := "(Ljava/lang/String;)Z" } : Jvm.MethodName)) ∈ lw_tbl := lw_at lw_m4 159 rfl
theorem q982 : (Jvm.Cond.instanceMethod ({ cls := "ValleyGuides$Reader", name := "isWord", desc := "(Ljava/lang/String;)Z" } : Jvm.MethodName)) ∈ lw_all := lw_g (lw_at lw_m4 160 rfl) rfl
theorem q983 : (Jvm.Cond.code ({ cls := "ValleyGuides$Reader", name := "isWord", desc := "(Ljava/lang/String;)Z" } : Jvm.MethodName) prog_13_method_4_code (4 : Nat) (Option.some Jvm.ClassFile.FieldType.boolean)) ∈ lw_all := lw_g (lw_at lw_m4 161 rfl) rfl
theorem q984 : (Jvm.Cond.methodLink "ValleyGuides$Reader" (27 : Nat) ({ cls := "java/lang/String", name := "length", desc := "()I" } : Jvm.MethodName)) ∈ lw_all := lw_g (lw_at lw_m4 162 rfl) rfl
theorem q994 : (Jvm.Cond.methodLink "ValleyGuides$Reader" (36 : Nat) ({ cls := "java/lang/String", name := "charAt", desc := "(I)C" } : Jvm.MethodName)) ∈ lw_all := lw_g (lw_at lw_m4 172 rfl) rfl
theorem q1030 : (Jvm.Cond.methodLink "ValleyGuides$Reader" (66 : Nat) ({ cls := "ValleyGuides$Reader", name := "must", desc := "(ZI)V" } : Jvm.MethodName)) ∈ lw_all := lw_g (lw_at lw_m4 208 rfl) rfl
theorem q1031 : (Jvm.Cond.privateMethod ({ cls := "ValleyGuides$Reader", name := "must", desc := "(ZI)V" } : Jvm.MethodName)) ∈ lw_tbl := lw_at lw_m4 209 rfl
theorem q1032 : (Jvm.Cond.instanceMethod ({ cls := "ValleyGuides$Reader", name := "must", desc := "(ZI)V" } : Jvm.MethodName)) ∈ lw_all := lw_g (lw_at lw_m4 210 rfl) rfl
theorem q1033 : (Jvm.Cond.code ({ cls := "ValleyGuides$Reader", name := "must", desc := "(ZI)V" } : Jvm.MethodName) prog_13_method_3_code (3 : Nat) (Option.none : Option Jvm.ClassFile.FieldType)) ∈ lw_all := lw_g (lw_at lw_m4 211 rfl) rfl
theorem q1034 : (Jvm.Cond.classLink "ValleyGuides$Reader" (18 : Nat) "ValleyGuides$Fault") ∈ lw_all := lw_g (lw_at lw_m4 212 rfl) rfl
theorem q1043 : (Jvm.Cond.methodLink "ValleyGuides$Reader" (24 : Nat) ({ cls := "ValleyGuides$Fault", name := "<init>", desc := "(II)V" } : Jvm.MethodName)) ∈ lw_all := lw_g (lw_at lw_m4 221 rfl) rfl
theorem q1065 : (Jvm.Cond.constantLong "ValleyGuides$Reader" (70 : Nat) (48 : Int64)) ∈ lw_all := lw_g (lw_at lw_m5 3 rfl) rfl
theorem q1066 : (Jvm.Cond.constantLong "ValleyGuides$Reader" (72 : Nat) (57 : Int64)) ∈ lw_all := lw_g (lw_at lw_m5 4 rfl) rfl
theorem q1067 : (Jvm.Cond.fieldLink "ValleyGuides$Reader" (9 : Nat) "ValleyGuides$Reader" "t" "[B") ∈ lw_all := lw_g (lw_at lw_m5 5 rfl) rfl
theorem q1068 : (Jvm.Cond.fieldLink "ValleyGuides$Reader" (20 : Nat) "ValleyGuides$Reader" "from" "I") ∈ lw_all := lw_g (lw_at lw_m5 6 rfl) rfl
theorem q1069 : (Jvm.Cond.fieldLink "ValleyGuides$Reader" (33 : Nat) "ValleyGuides$Reader" "to" "I") ∈ lw_all := lw_g (lw_at lw_m5 7 rfl) rfl
theorem q1070 : (Jvm.Cond.fieldLink "ValleyGuides$Reader" (47 : Nat) "ValleyGuides$Reader" "kind" "I") ∈ lw_all := lw_g (lw_at lw_m5 8 rfl) rfl
theorem q1071 : (Jvm.Cond.fieldLink "ValleyGuides$Reader" (44 : Nat) "ValleyGuides$Reader" "value" "I") ∈ lw_all := lw_g (lw_at lw_m5 9 rfl) rfl
theorem q1072 : (Jvm.Cond.fieldLink "ValleyGuides$Reader" (86 : Nat) "ValleyGuides$Reader" "open" "I") ∈ lw_all := lw_g (lw_at lw_m5 10 rfl) rfl
theorem q1073 : (Jvm.Cond.laysFinal "ValleyGuides$Reader" "ValleyGuides$Reader" "t" "[B") ∈ lw_all := lw_g (lw_at lw_m5 11 rfl) rfl
theorem q1074 : (Jvm.Cond.soleField "ValleyGuides$Reader" "t") ∈ lw_all := lw_g (lw_at lw_m5 12 rfl) rfl
theorem q1075 : (Jvm.Cond.lays "ValleyGuides$Reader" "ValleyGuides$Reader" "from" "I") ∈ lw_all := lw_g (lw_at lw_m5 13 rfl) rfl
theorem q1076 : (Jvm.Cond.soleField "ValleyGuides$Reader" "from") ∈ lw_all := lw_g (lw_at lw_m5 14 rfl) rfl
theorem q1077 : (Jvm.Cond.lays "ValleyGuides$Reader" "ValleyGuides$Reader" "to" "I") ∈ lw_all := lw_g (lw_at lw_m5 15 rfl) rfl
theorem q1078 : (Jvm.Cond.soleField "ValleyGuides$Reader" "to") ∈ lw_all := lw_g (lw_at lw_m5 16 rfl) rfl
theorem q1079 : (Jvm.Cond.lays "ValleyGuides$Reader" "ValleyGuides$Reader" "kind" "I") ∈ lw_all := lw_g (lw_at lw_m5 17 rfl) rfl
theorem q1080 : (Jvm.Cond.soleField "ValleyGuides$Reader" "kind") ∈ lw_all := lw_g (lw_at lw_m5 18 rfl) rfl
theorem q1081 : (Jvm.Cond.lays "ValleyGuides$Reader" "ValleyGuides$Reader" "value" "I") ∈ lw_all := lw_g (lw_at lw_m5 19 rfl) rfl
theorem q1082 : (Jvm.Cond.soleField "ValleyGuides$Reader" "value") ∈ lw_all := lw_g (lw_at lw_m5 20 rfl) rfl
theorem q1083 : (Jvm.Cond.lays "ValleyGuides$Reader" "ValleyGuides$Reader" "open" "I") ∈ lw_all := lw_g (lw_at lw_m5 21 rfl) rfl
theorem q1084 : (Jvm.Cond.soleField "ValleyGuides$Reader" "open") ∈ lw_all := lw_g (lw_at lw_m5 22 rfl) rfl
theorem q1085 : (Jvm.Cond.superclass "ValleyGuides$Reader" "java/lang/Object") ∈ lw_all := lw_g (lw_at lw_m5 23 rfl) rfl
theorem q1087 : (Jvm.Cond.instanceMethod ({ cls := "ValleyGuides$Reader", name := "all", desc := "()Ljava/util/List;" } : Jvm.MethodName)) ∈ lw_all := lw_g (lw_at lw_m5 25 rfl) rfl
theorem q1088 : (Jvm.Cond.selects "ValleyGuides$Reader" ({ cls := "ValleyGuides$Reader", name := "all", desc := "()Ljava/util/List;" } : Jvm.MethodName) ({ cls := "ValleyGuides$Reader", name := "all", desc := "()Ljava/util/List;" } : Jvm.MethodName)) ∈ lw_all := lw_g (lw_at lw_m5 26 rfl) rfl
theorem q1089 : (Jvm.Cond.code ({ cls := "ValleyGuides$Reader", name := "all", desc := "()Ljava/util/List;" } : Jvm.MethodName) prog_13_method_14_code (3 : Nat) (Option.some (Jvm.ClassFile.FieldType.object "java/util/List"))) ∈ lw_all := lw_g (lw_at lw_m5 27 rfl) rfl
theorem q1090 : (Jvm.Cond.classLink "ValleyGuides$Reader" (128 : Nat) "java/util/ArrayList") ∈ lw_all := lw_g (lw_at lw_m5 28 rfl) rfl
theorem q1091 : (Jvm.Cond.methodLink "ValleyGuides$Reader" (130 : Nat) ({ cls := "java/util/ArrayList", name := "<init>", desc := "()V" } : Jvm.MethodName)) ∈ lw_all := lw_g (lw_at lw_m5 29 rfl) rfl
theorem q1092 : (Jvm.Cond.interfaceEntry "ValleyGuides$Reader" (131 : Nat)) ∈ lw_tbl := lw_at lw_m5 30 rfl
theorem q1093 : (Jvm.Cond.methodLink "ValleyGuides$Reader" (131 : Nat) ({ cls := "java/util/List", name := "size", desc := "()I" } : Jvm.MethodName)) ∈ lw_all := lw_g (lw_at lw_m5 31 rfl) rfl
theorem q1094 : (Jvm.Cond.classLink "ValleyGuides$Reader" (136 : Nat) "ValleyGuides$Line") ∈ lw_all := lw_g (lw_at lw_m5 32 rfl) rfl
theorem q1096 : (Jvm.Cond.methodLink "ValleyGuides$Reader" (138 : Nat) ({ cls := "ValleyGuides$Reader", name := "test", desc := "()LValleyGuides$Part;" } : Jvm.MethodName)) ∈ lw_all := lw_g (lw_at lw_m5 34 rfl) rfl
theorem q1097 : (Jvm.Cond.privateMethod ({ cls := "ValleyGuides$Reader", name := "test", desc := "()LValleyGuides$Part;" } : Jvm.MethodName)) ∈ lw_tbl := lw_at lw_m5 35 rfl
theorem q1098 : (Jvm.Cond.instanceMethod ({ cls := "ValleyGuides$Reader", name := "test", desc := "()LValleyGuides$Part;" } : Jvm.MethodName)) ∈ lw_all := lw_g (lw_at lw_m5 36 rfl) rfl
theorem q1099 : (Jvm.Cond.code ({ cls := "ValleyGuides$Reader", name := "test", desc := "()LValleyGuides$Part;" } : Jvm.MethodName) prog_13_method_12_code (2 : Nat) (Option.some (Jvm.ClassFile.FieldType.object "ValleyGuides$Part"))) ∈ lw_all := lw_g (lw_at lw_m5 37 rfl) rfl
theorem q1100 : (Jvm.Cond.methodLink "ValleyGuides$Reader" (114 : Nat) ({ cls := "ValleyGuides$Reader", name := "conjunction", desc := "()LValleyGuides$Part;" } : Jvm.MethodName)) ∈ lw_all := lw_g (lw_at lw_m5 38 rfl) rfl
theorem q1101 : (Jvm.Cond.privateMethod ({ cls := "ValleyGuides$Reader", name := "conjunction", desc := "()LValleyGuides$Part;" } : Jvm.MethodName)) ∈ lw_tbl := lw_at lw_m5 39 rfl
theorem q1102 : (Jvm.Cond.instanceMethod ({ cls := "ValleyGuides$Reader", name := "conjunction", desc := "()LValleyGuides$Part;" } : Jvm.MethodName)) ∈ lw_all := lw_g (lw_at lw_m5 40 rfl) rfl
theorem q1103 : (Jvm.Cond.code ({ cls := "ValleyGuides$Reader", name := "conjunction", desc := "()LValleyGuides$Part;" } : Jvm.MethodName) prog_13_method_13_code (2 : Nat) (Option.some (Jvm.ClassFile.FieldType.object "ValleyGuides$Part"))) ∈ lw_all := lw_g (lw_at lw_m5 41 rfl) rfl
theorem q1104 : (Jvm.Cond.methodLink "ValleyGuides$Reader" (122 : Nat) ({ cls := "ValleyGuides$Reader", name := "one", desc := "()LValleyGuides$Part;" } : Jvm.MethodName)) ∈ lw_all := lw_g (lw_at lw_m5 42 rfl) rfl
theorem q1105 : (Jvm.Cond.privateMethod ({ cls := "ValleyGuides$Reader", name := "one", desc := "()LValleyGuides$Part;" } : Jvm.MethodName)) ∈ lw_tbl := lw_at lw_m5 43 rfl
theorem q1106 : (Jvm.Cond.instanceMethod ({ cls := "ValleyGuides$Reader", name := "one", desc := "()LValleyGuides$Part;" } : Jvm.MethodName)) ∈ lw_all := lw_g (lw_at lw_m5 44 rfl) rfl
theorem q1107 : (Jvm.Cond.code ({ cls := "ValleyGuides$Reader", name := "one", desc := "()LValleyGuides$Part;" } : Jvm.MethodName) prog_13_method_11_code (5 : Nat) (Option.some (Jvm.ClassFile.FieldType.object "ValleyGuides$Part"))) ∈ lw_all := lw_g (lw_at lw_m5 45 rfl) rfl
theorem q1108 : (Jvm.Cond.methodLink "ValleyGuides$Reader" (103 : Nat) ({ cls := "ValleyGuides$Reader", name := "isName", desc := "(I)Z" } : Jvm.MethodName)) ∈ lw_all := lw_g (lw_at lw_m5 46 rfl) rfl
theorem q1109 : (Jvm.Cond.privateMethod ({ cls := "ValleyGuides$Reader", name := "isName", desc := "(I)Z" } : Jvm.MethodName)) ∈ lw_tbl := lw_at lw_m5 47 rfl
theorem q1110 : (Jvm.Cond.instanceMethod ({ cls := "ValleyGuides$Reader", name := "isName", desc := "(I)Z" } : Jvm.MethodName)) ∈ lw_all := lw_g (lw_at lw_m5 48 rfl) rfl
theorem q1111 : (Jvm.Cond.code ({ cls := "ValleyGuides$Reader", name := "isName", desc := "(I)Z" } : Jvm.MethodName) prog_13_method_7_code (2 : Nat) (Option.some Jvm.ClassFile.FieldType.boolean)) ∈ lw_all := lw_g (lw_at lw_m5 49 rfl) rfl
theorem q1112 : (Jvm.Cond.methodLink "ValleyGuides$Reader" (89 : Nat) ({ cls := "ValleyGuides$Reader", name := "sum", desc := "()LValleyGuides$Part;" } : Jvm.MethodName)) ∈ lw_all := lw_g (lw_at lw_m5 50 rfl) rfl
theorem q1113 : (Jvm.Cond.privateMethod ({ cls := "ValleyGuides$Reader", name := "sum", desc := "()LValleyGuides$Part;" } : Jvm.MethodName)) ∈ lw_tbl := lw_at lw_m5 51 rfl
theorem q1114 : (Jvm.Cond.instanceMethod ({ cls := "ValleyGuides$Reader", name := "sum", desc := "()LValleyGuides$Part;" } : Jvm.MethodName)) ∈ lw_all := lw_g (lw_at lw_m5 52 rfl) rfl
theorem q1115 : (Jvm.Cond.code ({ cls := "ValleyGuides$Reader", name := "sum", desc := "()LValleyGuides$Part;" } : Jvm.MethodName) prog_13_method_10_code (3 : Nat) (Option.some (Jvm.ClassFile.FieldType.object "ValleyGuides$Part"))) ∈ lw_all := lw_g (lw_at lw_m5 53 rfl) rfl
theorem q1116 : (Jvm.Cond.methodLink "ValleyGuides$Reader" (100 : Nat) ({ cls := "ValleyGuides$Reader", name := "product", desc := "()LValleyGuides$Part;" } : Jvm.MethodName)) ∈ lw_all := lw_g (lw_at lw_m5 54 rfl) rfl
theorem q1117 : (Jvm.Cond.privateMethod ({ cls := "ValleyGuides$Reader", name := "product", desc := "()LValleyGuides$Part;" } : Jvm.MethodName)) ∈ lw_tbl := lw_at lw_m5 55 rfl
theorem q1118 : (Jvm.Cond.instanceMethod ({ cls := "ValleyGuides$Reader", name := "product", desc := "()LValleyGuides$Part;" } : Jvm.MethodName)) ∈ lw_all := lw_g (lw_at lw_m5 56 rfl) rfl
theorem q1119 : (Jvm.Cond.code ({ cls := "ValleyGuides$Reader", name := "product", desc := "()LValleyGuides$Part;" } : Jvm.MethodName) prog_13_method_9_code (2 : Nat) (Option.some (Jvm.ClassFile.FieldType.object "ValleyGuides$Part"))) ∈ lw_all := lw_g (lw_at lw_m5 57 rfl) rfl
theorem q1120 : (Jvm.Cond.methodLink "ValleyGuides$Reader" (93 : Nat) ({ cls := "ValleyGuides$Reader", name := "value", desc := "()LValleyGuides$Part;" } : Jvm.MethodName)) ∈ lw_all := lw_g (lw_at lw_m5 58 rfl) rfl
theorem q1121 : (Jvm.Cond.privateMethod ({ cls := "ValleyGuides$Reader", name := "value", desc := "()LValleyGuides$Part;" } : Jvm.MethodName)) ∈ lw_tbl := lw_at lw_m5 59 rfl
theorem q1122 : (Jvm.Cond.instanceMethod ({ cls := "ValleyGuides$Reader", name := "value", desc := "()LValleyGuides$Part;" } : Jvm.MethodName)) ∈ lw_all := lw_g (lw_at lw_m5 60 rfl) rfl
theorem q1123 : (Jvm.Cond.code ({ cls := "ValleyGuides$Reader", name := "value", desc := "()LValleyGuides$Part;" } : Jvm.MethodName) prog_13_method_8_code (2 : Nat) (Option.some (Jvm.ClassFile.FieldType.object "ValleyGuides$Part"))) ∈ lw_all := lw_g (lw_at lw_m5 61 rfl) rfl
theorem q1124 : (Jvm.Cond.classLink "ValleyGuides$Reader" (74 : Nat) "ValleyGuides$Number") ∈ lw_all := lw_g (lw_at lw_m5 62 rfl) rfl
theorem q1126 : (Jvm.Cond.methodLink "ValleyGuides$Reader" (76 : Nat) ({ cls := "ValleyGuides$Number", name := "<init>", desc := "(I)V" } : Jvm.MethodName)) ∈ lw_all := lw_g (lw_at lw_m5 64 rfl) rfl
theorem q1137 : (Jvm.Cond.classLink "ValleyGuides$Reader" (79 : Nat) "ValleyGuides$Variable") ∈ lw_all := lw_g (lw_at lw_m5 75 rfl) rfl
theorem q1139 : (Jvm.Cond.methodLink "ValleyGuides$Reader" (81 : Nat) ({ cls := "ValleyGuides$Variable", name := "<init>", desc := "(I)V" } : Jvm.MethodName)) ∈ lw_all := lw_g (lw_at lw_m5 77 rfl) rfl
theorem q1147 : (Jvm.Cond.methodLink "ValleyGuides$Reader" (82 : Nat) ({ cls := "ValleyGuides$Reader", name := "isSign", desc := "(I)Z" } : Jvm.MethodName)) ∈ lw_all := lw_g (lw_at lw_m5 85 rfl) rfl
theorem q1148 : (Jvm.Cond.privateMethod ({ cls := "ValleyGuides$Reader", name := "isSign", desc := "(I)Z" } : Jvm.MethodName)) ∈ lw_tbl := lw_at lw_m5 86 rfl
theorem q1149 : (Jvm.Cond.instanceMethod ({ cls := "ValleyGuides$Reader", name := "isSign", desc := "(I)Z" } : Jvm.MethodName)) ∈ lw_all := lw_g (lw_at lw_m5 87 rfl) rfl
theorem q1150 : (Jvm.Cond.code ({ cls := "ValleyGuides$Reader", name := "isSign", desc := "(I)Z" } : Jvm.MethodName) prog_13_method_6_code (2 : Nat) (Option.some Jvm.ClassFile.FieldType.boolean)) ∈ lw_all := lw_g (lw_at lw_m5 88 rfl) rfl
theorem q1151 : (Jvm.Cond.classLink "ValleyGuides$Reader" (95 : Nat) "ValleyGuides$Sum") ∈ lw_all := lw_g (lw_at lw_m5 89 rfl) rfl
theorem q1153 : (Jvm.Cond.methodLink "ValleyGuides$Reader" (97 : Nat) ({ cls := "ValleyGuides$Sum", name := "<init>", desc := "(LValleyGuides$Part;LValleyGuides$Part;I)V" } : Jvm.MethodName)) ∈ lw_all := lw_g (lw_at lw_m5 91 rfl) rfl
theorem q1182 : (Jvm.Cond.classLink "ValleyGuides$Reader" (106 : Nat) "ValleyGuides$Relation") ∈ lw_all := lw_g (lw_at lw_m5 120 rfl) rfl
theorem q1184 : (Jvm.Cond.methodLink "ValleyGuides$Reader" (108 : Nat) ({ cls := "ValleyGuides$Relation", name := "<init>", desc := "(LValleyGuides$Part;LValleyGuides$Part;I)V" } : Jvm.MethodName)) ∈ lw_all := lw_g (lw_at lw_m5 122 rfl) rfl
theorem q1194 : (Jvm.Cond.classLink "ValleyGuides$Reader" (109 : Nat) "ValleyGuides$Not") ∈ lw_all := lw_g (lw_at lw_m5 132 rfl) rfl
theorem q1196 : (Jvm.Cond.methodLink "ValleyGuides$Reader" (111 : Nat) ({ cls := "ValleyGuides$Not", name := "<init>", desc := "(LValleyGuides$Part;)V" } : Jvm.MethodName)) ∈ lw_all := lw_g (lw_at lw_m5 134 rfl) rfl
theorem q1204 : (Jvm.Cond.classLink "ValleyGuides$Reader" (125 : Nat) "ValleyGuides$Both") ∈ lw_all := lw_g (lw_at lw_m5 142 rfl) rfl
theorem q1206 : (Jvm.Cond.methodLink "ValleyGuides$Reader" (127 : Nat) ({ cls := "ValleyGuides$Both", name := "<init>", desc := "(LValleyGuides$Part;LValleyGuides$Part;)V" } : Jvm.MethodName)) ∈ lw_all := lw_g (lw_at lw_m5 144 rfl) rfl
theorem q1213 : (Jvm.Cond.classLink "ValleyGuides$Reader" (117 : Nat) "ValleyGuides$Either") ∈ lw_all := lw_g (lw_at lw_m5 151 rfl) rfl
theorem q1215 : (Jvm.Cond.methodLink "ValleyGuides$Reader" (119 : Nat) ({ cls := "ValleyGuides$Either", name := "<init>", desc := "(LValleyGuides$Part;LValleyGuides$Part;)V" } : Jvm.MethodName)) ∈ lw_all := lw_g (lw_at lw_m5 153 rfl) rfl
theorem q1222 : (Jvm.Cond.methodLink "ValleyGuides$Reader" (141 : Nat) ({ cls := "ValleyGuides$Line", name := "<init>", desc := "(ILValleyGuides$Part;)V" } : Jvm.MethodName)) ∈ lw_all := lw_g (lw_at lw_m5 160 rfl) rfl
theorem q1235 : (Jvm.Cond.interfaceEntry "ValleyGuides$Reader" (144 : Nat)) ∈ lw_tbl := lw_at lw_m5 173 rfl
theorem q1236 : (Jvm.Cond.methodLink "ValleyGuides$Reader" (144 : Nat) ({ cls := "java/util/List", name := "add", desc := "(Ljava/lang/Object;)Z" } : Jvm.MethodName)) ∈ lw_all := lw_g (lw_at lw_m5 174 rfl) rfl
theorem q1403 : (Jvm.Cond.selects "ValleyGuides$Reader" ({ cls := "java/lang/Object", name := "equals", desc := "(Ljava/lang/Object;)Z" } : Jvm.MethodName) ({ cls := "java/lang/Object", name := "equals", desc := "(Ljava/lang/Object;)Z" } : Jvm.MethodName)) ∈ lw_all := lw_g (lw_at lw_m6 101 rfl) rfl
theorem q2439 : (Jvm.Cond.castable "ValleyGuides$Reader" "java/lang/Object") ∈ lw_tbl := lw_at lw_m10 177 rfl
theorem in_X12 : ∀ w ∈ wsX120, w ∈ lw_all := lw_in wsX120 [1073, 1075, 1077, 1079, 1081, 1083] (by decide +kernel) (by decide +kernel)
/-! ValleyGuides$Fault -/
set_option maxRecDepth 100000
def RX13 : String := "ValleyGuides$Fault"
def TX13 : u_T := fun k => match k with
  | 0 => ("java/lang/Throwable", "cause", "Ljava/lang/Throwable;", false)
  | 1 => ("java/lang/Throwable", "stackTrace", "[Ljava/lang/StackTraceElement;", false)
  | 2 => ("java/lang/Throwable", "suppressedExceptions", "Ljava/util/List;", false)
  | 3 => ("java/lang/Throwable", "detailMessage", "Ljava/lang/String;", false)
  | 4 => ("java/lang/Throwable", "backtrace", "Ljava/lang/Object;", false)
  | 5 => ("java/lang/Throwable", "depth", "I", false)
  | 6 => ("ValleyGuides$Fault", "code", "I", true)
  | _ => ("ValleyGuides$Fault", "place", "I", true)
def tyX13 : Nat → FieldType := fun k => match k with
  | 0 => .object "java/lang/Throwable"
  | 1 => .array (.object "java/lang/StackTraceElement")
  | 2 => .object "java/util/List"
  | 3 => .object "java/lang/String"
  | 4 => .object "java/lang/Object"
  | 5 => .int
  | 6 => .int
  | _ => .int
abbrev wsX130 : List Cond := u_ws RX13 TX13 8
theorem nmX13 : ∀ a, a < 8 → ∀ b, b < 8 → a ≠ b → (TX13 a).2.1 ≠ (TX13 b).2.1 := by decide +kernel
theorem tyX13_ok : ∀ k, k < 8 → parseFieldDescriptor (TX13 k).2.2.1 = some (tyX13 k) := by decide +kernel
abbrev cX13_init : ByteArray := prog_4_method_1_code
def yX13_init : MethodName := ⟨RX13, "<init>", "(II)V"⟩
def dkwX13_init_0 : List UInt8 := [42, 1, 1, 3, 3, 183, 0, 1, 42, 27, 181, 0, 7, 42, 28, 181, 0, 13, 177]
abbrev dktX13_init_0 : List UInt8 := dkwX13_init_0 ++ []
theorem dksX13_init_0 : cX13_init.data.toList.drop 0 = dktX13_init_0 := by decide +kernel
theorem dX13_init_0 : decode cX13_init 0 = .ok (.aload_n 0, 1) := dk_42 (dk_at dksX13_init_0 0 rfl rfl)
theorem dX13_init_1 : decode cX13_init 1 = .ok (.aconst_null, 1) := dk_1 (dk_at dksX13_init_0 1 rfl rfl)
theorem dX13_init_2 : decode cX13_init 2 = .ok (.aconst_null, 1) := dk_1 (dk_at dksX13_init_0 2 rfl rfl)
theorem dX13_init_3 : decode cX13_init 3 = .ok (.iconst 0, 1) := dk_3 (dk_at dksX13_init_0 3 rfl rfl)
theorem dX13_init_4 : decode cX13_init 4 = .ok (.iconst 0, 1) := dk_3 (dk_at dksX13_init_0 4 rfl rfl)
theorem dX13_init_5 : decode cX13_init 5 = .ok (.invokespecial 1, 3) := dk_183 0 1 (dk_at dksX13_init_0 5 rfl rfl)
theorem dX13_init_8 : decode cX13_init 8 = .ok (.aload_n 0, 1) := dk_42 (dk_at dksX13_init_0 8 rfl rfl)
theorem dX13_init_9 : decode cX13_init 9 = .ok (.iload_n 1, 1) := dk_27 (dk_at dksX13_init_0 9 rfl rfl)
theorem dX13_init_10 : decode cX13_init 10 = .ok (.putfield 7, 3) := dk_181 0 7 (dk_at dksX13_init_0 10 rfl rfl)
theorem dX13_init_13 : decode cX13_init 13 = .ok (.aload_n 0, 1) := dk_42 (dk_at dksX13_init_0 13 rfl rfl)
theorem dX13_init_14 : decode cX13_init 14 = .ok (.iload_n 2, 1) := dk_28 (dk_at dksX13_init_0 14 rfl rfl)
theorem dX13_init_15 : decode cX13_init 15 = .ok (.putfield 13, 3) := dk_181 0 13 (dk_at dksX13_init_0 15 rfl rfl)
theorem dX13_init_18 : decode cX13_init 18 = .ok (.return_, 1) := dk_177 (dk_at dksX13_init_0 18 rfl rfl)
theorem q138 : (Jvm.Cond.initialized "ValleyGuides$Fault") ∈ lw_all := lw_g (lw_at lw_m1 36 rfl) rfl
theorem q377 : (Jvm.Cond.selects "ValleyGuides$Fault" ({ cls := "java/lang/Object", name := "getClass", desc := "()Ljava/lang/Class;" } : Jvm.MethodName) ({ cls := "java/lang/Object", name := "getClass", desc := "()Ljava/lang/Class;" } : Jvm.MethodName)) ∈ lw_all := lw_g (lw_at lw_m2 35 rfl) rfl
theorem q703 : (Jvm.Cond.selects "ValleyGuides$Fault" ({ cls := "java/lang/Throwable", name := "fillInStackTrace", desc := "()Ljava/lang/Throwable;" } : Jvm.MethodName) ({ cls := "java/lang/Throwable", name := "fillInStackTrace", desc := "()Ljava/lang/Throwable;" } : Jvm.MethodName)) ∈ lw_all := lw_g (lw_at lw_m3 121 rfl) rfl
theorem q1035 : (Jvm.Cond.instantiable "ValleyGuides$Fault" (8 : Nat)) ∈ lw_all := lw_g (lw_at lw_m4 213 rfl) rfl
theorem q1036 : (Jvm.Cond.castable "ValleyGuides$Fault" "ValleyGuides$Fault") ∈ lw_tbl := lw_at lw_m4 214 rfl
theorem q1037 : (Jvm.Cond.selects "ValleyGuides$Fault" ({ cls := "java/lang/Throwable", name := "fillInStackTrace", desc := "(I)Ljava/lang/Throwable;" } : Jvm.MethodName) ({ cls := "java/lang/Throwable", name := "fillInStackTrace", desc := "(I)Ljava/lang/Throwable;" } : Jvm.MethodName)) ∈ lw_all := lw_g (lw_at lw_m4 215 rfl) rfl
theorem q1038 : (Jvm.Cond.lays "ValleyGuides$Fault" "java/lang/Throwable" "cause" "Ljava/lang/Throwable;") ∈ lw_all := lw_g (lw_at lw_m4 216 rfl) rfl
theorem q1039 : (Jvm.Cond.lays "ValleyGuides$Fault" "java/lang/Throwable" "stackTrace" "[Ljava/lang/StackTraceElement;") ∈ lw_all := lw_g (lw_at lw_m4 217 rfl) rfl
theorem q1040 : (Jvm.Cond.lays "ValleyGuides$Fault" "java/lang/Throwable" "suppressedExceptions" "Ljava/util/List;") ∈ lw_all := lw_g (lw_at lw_m4 218 rfl) rfl
theorem q1041 : (Jvm.Cond.lays "ValleyGuides$Fault" "java/lang/Throwable" "detailMessage" "Ljava/lang/String;") ∈ lw_all := lw_g (lw_at lw_m4 219 rfl) rfl
theorem q1042 : (Jvm.Cond.lays "ValleyGuides$Fault" "java/lang/Throwable" "backtrace" "Ljava/lang/Object;") ∈ lw_all := lw_g (lw_at lw_m4 220 rfl) rfl
theorem q1044 : (Jvm.Cond.instanceMethod ({ cls := "ValleyGuides$Fault", name := "<init>", desc := "(II)V" } : Jvm.MethodName)) ∈ lw_all := lw_g (lw_at lw_m4 222 rfl) rfl
theorem q1045 : (Jvm.Cond.code ({ cls := "ValleyGuides$Fault", name := "<init>", desc := "(II)V" } : Jvm.MethodName) prog_4_method_1_code (3 : Nat) (Option.none : Option Jvm.ClassFile.FieldType)) ∈ lw_all := lw_g (lw_at lw_m4 223 rfl) rfl
theorem q1046 : (Jvm.Cond.methodLink "ValleyGuides$Fault" (1 : Nat) ({ cls := "java/lang/RuntimeException", name := "<init>", desc := "(Ljava/lang/String;Ljava/lang/Throwable;ZZ)V" } : Jvm.MethodName)) ∈ lw_all := lw_g (lw_at lw_m4 224 rfl) rfl
theorem q1055 : (Jvm.Cond.fieldLink "ValleyGuides$Fault" (7 : Nat) "ValleyGuides$Fault" "code" "I") ∈ lw_all := lw_g (lw_at lw_m4 233 rfl) rfl
theorem q1057 : (Jvm.Cond.fieldLink "ValleyGuides$Fault" (13 : Nat) "ValleyGuides$Fault" "place" "I") ∈ lw_all := lw_g (lw_at lw_m4 235 rfl) rfl
theorem q1059 : (Jvm.Cond.laysFinal "ValleyGuides$Fault" "ValleyGuides$Fault" "code" "I") ∈ lw_all := lw_g (lw_at lw_m4 237 rfl) rfl
theorem q1060 : (Jvm.Cond.soleField "ValleyGuides$Fault" "code") ∈ lw_all := lw_g (lw_at lw_m4 238 rfl) rfl
theorem q1061 : (Jvm.Cond.laysFinal "ValleyGuides$Fault" "ValleyGuides$Fault" "place" "I") ∈ lw_all := lw_g (lw_at lw_m4 239 rfl) rfl
theorem q1062 : (Jvm.Cond.soleField "ValleyGuides$Fault" "place") ∈ lw_all := lw_g (lw_at lw_m5 0 rfl) rfl
theorem q1063 : (Jvm.Cond.lays "ValleyGuides$Fault" "java/lang/Throwable" "depth" "I") ∈ lw_all := lw_g (lw_at lw_m5 1 rfl) rfl
theorem q1064 : (Jvm.Cond.superclass "ValleyGuides$Fault" "java/lang/RuntimeException") ∈ lw_all := lw_g (lw_at lw_m5 2 rfl) rfl
theorem q1395 : (Jvm.Cond.selects "ValleyGuides$Fault" ({ cls := "java/lang/Object", name := "equals", desc := "(Ljava/lang/Object;)Z" } : Jvm.MethodName) ({ cls := "java/lang/Object", name := "equals", desc := "(Ljava/lang/Object;)Z" } : Jvm.MethodName)) ∈ lw_all := lw_g (lw_at lw_m6 93 rfl) rfl
theorem q2440 : (Jvm.Cond.castable "ValleyGuides$Fault" "java/lang/Object") ∈ lw_tbl := lw_at lw_m10 178 rfl
theorem in_X13 : ∀ w ∈ wsX130, w ∈ lw_all := lw_in wsX130 [1038, 1039, 1040, 1041, 1042, 1063, 1059, 1061] (by decide +kernel) (by decide +kernel)
/-! ValleyGuides$Line -/
set_option maxRecDepth 100000
def RX14 : String := "ValleyGuides$Line"
def TX14 : u_T := fun k => match k with
  | 0 => ("ValleyGuides$Line", "kind", "I", true)
  | _ => ("ValleyGuides$Line", "part", "LValleyGuides$Part;", true)
def tyX14 : Nat → FieldType := fun k => match k with
  | 0 => .int
  | _ => .object "ValleyGuides$Part"
abbrev wsX140 : List Cond := u_ws RX14 TX14 2
theorem nmX14 : ∀ a, a < 2 → ∀ b, b < 2 → a ≠ b → (TX14 a).2.1 ≠ (TX14 b).2.1 := by decide +kernel
theorem tyX14_ok : ∀ k, k < 2 → parseFieldDescriptor (TX14 k).2.2.1 = some (tyX14 k) := by decide +kernel
abbrev cX14_init : ByteArray := prog_8_method_1_code
def yX14_init : MethodName := ⟨RX14, "<init>", "(ILValleyGuides$Part;)V"⟩
def dkwX14_init_0 : List UInt8 := [42, 183, 0, 1, 42, 27, 181, 0, 7, 42, 44, 181, 0, 13, 177]
abbrev dktX14_init_0 : List UInt8 := dkwX14_init_0 ++ []
theorem dksX14_init_0 : cX14_init.data.toList.drop 0 = dktX14_init_0 := by decide +kernel
theorem dX14_init_0 : decode cX14_init 0 = .ok (.aload_n 0, 1) := dk_42 (dk_at dksX14_init_0 0 rfl rfl)
theorem dX14_init_1 : decode cX14_init 1 = .ok (.invokespecial 1, 3) := dk_183 0 1 (dk_at dksX14_init_0 1 rfl rfl)
theorem dX14_init_4 : decode cX14_init 4 = .ok (.aload_n 0, 1) := dk_42 (dk_at dksX14_init_0 4 rfl rfl)
theorem dX14_init_5 : decode cX14_init 5 = .ok (.iload_n 1, 1) := dk_27 (dk_at dksX14_init_0 5 rfl rfl)
theorem dX14_init_6 : decode cX14_init 6 = .ok (.putfield 7, 3) := dk_181 0 7 (dk_at dksX14_init_0 6 rfl rfl)
theorem dX14_init_9 : decode cX14_init 9 = .ok (.aload_n 0, 1) := dk_42 (dk_at dksX14_init_0 9 rfl rfl)
theorem dX14_init_10 : decode cX14_init 10 = .ok (.aload_n 2, 1) := dk_44 (dk_at dksX14_init_0 10 rfl rfl)
theorem dX14_init_11 : decode cX14_init 11 = .ok (.putfield 13, 3) := dk_181 0 13 (dk_at dksX14_init_0 11 rfl rfl)
theorem dX14_init_14 : decode cX14_init 14 = .ok (.return_, 1) := dk_177 (dk_at dksX14_init_0 14 rfl rfl)
theorem q139 : (Jvm.Cond.initialized "ValleyGuides$Line") ∈ lw_all := lw_g (lw_at lw_m1 37 rfl) rfl
theorem q381 : (Jvm.Cond.selects "ValleyGuides$Line" ({ cls := "java/lang/Object", name := "getClass", desc := "()Ljava/lang/Class;" } : Jvm.MethodName) ({ cls := "java/lang/Object", name := "getClass", desc := "()Ljava/lang/Class;" } : Jvm.MethodName)) ∈ lw_all := lw_g (lw_at lw_m2 39 rfl) rfl
theorem q1095 : (Jvm.Cond.instantiable "ValleyGuides$Line" (2 : Nat)) ∈ lw_all := lw_g (lw_at lw_m5 33 rfl) rfl
theorem q1223 : (Jvm.Cond.instanceMethod ({ cls := "ValleyGuides$Line", name := "<init>", desc := "(ILValleyGuides$Part;)V" } : Jvm.MethodName)) ∈ lw_all := lw_g (lw_at lw_m5 161 rfl) rfl
theorem q1224 : (Jvm.Cond.code ({ cls := "ValleyGuides$Line", name := "<init>", desc := "(ILValleyGuides$Part;)V" } : Jvm.MethodName) prog_8_method_1_code (3 : Nat) (Option.none : Option Jvm.ClassFile.FieldType)) ∈ lw_all := lw_g (lw_at lw_m5 162 rfl) rfl
theorem q1225 : (Jvm.Cond.methodLink "ValleyGuides$Line" (1 : Nat) ({ cls := "java/lang/Object", name := "<init>", desc := "()V" } : Jvm.MethodName)) ∈ lw_all := lw_g (lw_at lw_m5 163 rfl) rfl
theorem q1226 : (Jvm.Cond.fieldLink "ValleyGuides$Line" (7 : Nat) "ValleyGuides$Line" "kind" "I") ∈ lw_all := lw_g (lw_at lw_m5 164 rfl) rfl
theorem q1228 : (Jvm.Cond.fieldLink "ValleyGuides$Line" (13 : Nat) "ValleyGuides$Line" "part" "LValleyGuides$Part;") ∈ lw_all := lw_g (lw_at lw_m5 166 rfl) rfl
theorem q1230 : (Jvm.Cond.laysFinal "ValleyGuides$Line" "ValleyGuides$Line" "kind" "I") ∈ lw_all := lw_g (lw_at lw_m5 168 rfl) rfl
theorem q1231 : (Jvm.Cond.soleField "ValleyGuides$Line" "kind") ∈ lw_all := lw_g (lw_at lw_m5 169 rfl) rfl
theorem q1232 : (Jvm.Cond.laysFinal "ValleyGuides$Line" "ValleyGuides$Line" "part" "LValleyGuides$Part;") ∈ lw_all := lw_g (lw_at lw_m5 170 rfl) rfl
theorem q1233 : (Jvm.Cond.soleField "ValleyGuides$Line" "part") ∈ lw_all := lw_g (lw_at lw_m5 171 rfl) rfl
theorem q1234 : (Jvm.Cond.superclass "ValleyGuides$Line" "java/lang/Object") ∈ lw_all := lw_g (lw_at lw_m5 172 rfl) rfl
theorem q1399 : (Jvm.Cond.selects "ValleyGuides$Line" ({ cls := "java/lang/Object", name := "equals", desc := "(Ljava/lang/Object;)Z" } : Jvm.MethodName) ({ cls := "java/lang/Object", name := "equals", desc := "(Ljava/lang/Object;)Z" } : Jvm.MethodName)) ∈ lw_all := lw_g (lw_at lw_m6 97 rfl) rfl
theorem q2441 : (Jvm.Cond.castable "ValleyGuides$Line" "java/lang/Object") ∈ lw_tbl := lw_at lw_m10 179 rfl
theorem in_X14 : ∀ w ∈ wsX140, w ∈ lw_all := lw_in wsX140 [1230, 1232] (by decide +kernel) (by decide +kernel)
/-! ValleyGuides$Part -/
set_option maxRecDepth 100000
def RX15 : String := "ValleyGuides$Part"
abbrev cX15_init : ByteArray := prog_11_method_1_code
def yX15_init : MethodName := ⟨RX15, "<init>", "()V"⟩
theorem dX15_init_0 : decode cX15_init 0 = .ok (.aload_n 0, 1) := by decide +kernel
theorem dX15_init_1 : decode cX15_init 1 = .ok (.invokespecial 1, 3) := by decide +kernel
theorem dX15_init_4 : decode cX15_init 4 = .ok (.return_, 1) := by decide +kernel
theorem q140 : (Jvm.Cond.initialized "ValleyGuides$Part") ∈ lw_all := lw_g (lw_at lw_m1 38 rfl) rfl
theorem q1130 : (Jvm.Cond.instanceMethod ({ cls := "ValleyGuides$Part", name := "<init>", desc := "()V" } : Jvm.MethodName)) ∈ lw_all := lw_g (lw_at lw_m5 68 rfl) rfl
theorem q1131 : (Jvm.Cond.code ({ cls := "ValleyGuides$Part", name := "<init>", desc := "()V" } : Jvm.MethodName) prog_11_method_1_code (1 : Nat) (Option.none : Option Jvm.ClassFile.FieldType)) ∈ lw_all := lw_g (lw_at lw_m5 69 rfl) rfl
theorem q1132 : (Jvm.Cond.methodLink "ValleyGuides$Part" (1 : Nat) ({ cls := "java/lang/Object", name := "<init>", desc := "()V" } : Jvm.MethodName)) ∈ lw_all := lw_g (lw_at lw_m5 70 rfl) rfl
theorem q1263 : (Jvm.Cond.declares ({ cls := "ValleyGuides$Part", name := "of", desc := "([I)I" } : Jvm.MethodName)) ∈ lw_tbl := lw_at lw_m5 201 rfl
theorem q1264 : (Jvm.Cond.sameMethod "ValleyGuides$Part" "ValleyGuides$Part" "of" "([I)I") ∈ lw_all := lw_g (lw_at lw_m5 202 rfl) rfl
/-! ValleyGuides$Number -/
set_option maxRecDepth 100000
def RX16 : String := "ValleyGuides$Number"
def TX16 : u_T := fun k => match k with
  | _ => ("ValleyGuides$Number", "value", "I", true)
def tyX16 : Nat → FieldType := fun k => match k with
  | _ => .int
abbrev wsX160 : List Cond := u_ws RX16 TX16 1
theorem nmX16 : ∀ a, a < 1 → ∀ b, b < 1 → a ≠ b → (TX16 a).2.1 ≠ (TX16 b).2.1 := by decide +kernel
theorem tyX16_ok : ∀ k, k < 1 → parseFieldDescriptor (TX16 k).2.2.1 = some (tyX16 k) := by decide +kernel
abbrev cX16_init : ByteArray := prog_10_method_1_code
def yX16_init : MethodName := ⟨RX16, "<init>", "(I)V"⟩
def dkwX16_init_0 : List UInt8 := [42, 183, 0, 1, 42, 27, 181, 0, 7, 177]
abbrev dktX16_init_0 : List UInt8 := dkwX16_init_0 ++ []
theorem dksX16_init_0 : cX16_init.data.toList.drop 0 = dktX16_init_0 := by decide +kernel
theorem dX16_init_0 : decode cX16_init 0 = .ok (.aload_n 0, 1) := dk_42 (dk_at dksX16_init_0 0 rfl rfl)
theorem dX16_init_1 : decode cX16_init 1 = .ok (.invokespecial 1, 3) := dk_183 0 1 (dk_at dksX16_init_0 1 rfl rfl)
theorem dX16_init_4 : decode cX16_init 4 = .ok (.aload_n 0, 1) := dk_42 (dk_at dksX16_init_0 4 rfl rfl)
theorem dX16_init_5 : decode cX16_init 5 = .ok (.iload_n 1, 1) := dk_27 (dk_at dksX16_init_0 5 rfl rfl)
theorem dX16_init_6 : decode cX16_init 6 = .ok (.putfield 7, 3) := dk_181 0 7 (dk_at dksX16_init_0 6 rfl rfl)
theorem dX16_init_9 : decode cX16_init 9 = .ok (.return_, 1) := dk_177 (dk_at dksX16_init_0 9 rfl rfl)
abbrev cX16_of : ByteArray := prog_10_method_2_code
def yX16_of : MethodName := ⟨RX16, "of", "([I)I"⟩
theorem dX16_of_0 : decode cX16_of 0 = .ok (.aload_n 0, 1) := by decide +kernel
theorem dX16_of_1 : decode cX16_of 1 = .ok (.getfield 7, 3) := by decide +kernel
theorem dX16_of_4 : decode cX16_of 4 = .ok (.ireturn, 1) := by decide +kernel
theorem q141 : (Jvm.Cond.initialized "ValleyGuides$Number") ∈ lw_all := lw_g (lw_at lw_m1 39 rfl) rfl
theorem q383 : (Jvm.Cond.selects "ValleyGuides$Number" ({ cls := "java/lang/Object", name := "getClass", desc := "()Ljava/lang/Class;" } : Jvm.MethodName) ({ cls := "java/lang/Object", name := "getClass", desc := "()Ljava/lang/Class;" } : Jvm.MethodName)) ∈ lw_all := lw_g (lw_at lw_m2 41 rfl) rfl
theorem q1125 : (Jvm.Cond.instantiable "ValleyGuides$Number" (1 : Nat)) ∈ lw_all := lw_g (lw_at lw_m5 63 rfl) rfl
theorem q1127 : (Jvm.Cond.instanceMethod ({ cls := "ValleyGuides$Number", name := "<init>", desc := "(I)V" } : Jvm.MethodName)) ∈ lw_all := lw_g (lw_at lw_m5 65 rfl) rfl
theorem q1128 : (Jvm.Cond.code ({ cls := "ValleyGuides$Number", name := "<init>", desc := "(I)V" } : Jvm.MethodName) prog_10_method_1_code (2 : Nat) (Option.none : Option Jvm.ClassFile.FieldType)) ∈ lw_all := lw_g (lw_at lw_m5 66 rfl) rfl
theorem q1129 : (Jvm.Cond.methodLinkNest "ValleyGuides$Number" (1 : Nat) ({ cls := "ValleyGuides$Part", name := "<init>", desc := "()V" } : Jvm.MethodName) "ValleyGuides") ∈ lw_tbl := lw_at lw_m5 67 rfl
theorem q1133 : (Jvm.Cond.fieldLink "ValleyGuides$Number" (7 : Nat) "ValleyGuides$Number" "value" "I") ∈ lw_all := lw_g (lw_at lw_m5 71 rfl) rfl
theorem q1134 : (Jvm.Cond.laysFinal "ValleyGuides$Number" "ValleyGuides$Number" "value" "I") ∈ lw_all := lw_g (lw_at lw_m5 72 rfl) rfl
theorem q1135 : (Jvm.Cond.soleField "ValleyGuides$Number" "value") ∈ lw_all := lw_g (lw_at lw_m5 73 rfl) rfl
theorem q1136 : (Jvm.Cond.superclass "ValleyGuides$Number" "ValleyGuides$Part") ∈ lw_all := lw_g (lw_at lw_m5 74 rfl) rfl
theorem q1272 : (Jvm.Cond.instanceMethod ({ cls := "ValleyGuides$Number", name := "of", desc := "([I)I" } : Jvm.MethodName)) ∈ lw_all := lw_g (lw_at lw_m5 210 rfl) rfl
theorem q1273 : (Jvm.Cond.code ({ cls := "ValleyGuides$Number", name := "of", desc := "([I)I" } : Jvm.MethodName) prog_10_method_2_code (2 : Nat) (Option.some Jvm.ClassFile.FieldType.int)) ∈ lw_all := lw_g (lw_at lw_m5 211 rfl) rfl
theorem q1307 : (Jvm.Cond.selects "ValleyGuides$Number" ({ cls := "ValleyGuides$Part", name := "of", desc := "([I)I" } : Jvm.MethodName) ({ cls := "ValleyGuides$Number", name := "of", desc := "([I)I" } : Jvm.MethodName)) ∈ lw_all := lw_g (lw_at lw_m6 5 rfl) rfl
theorem q1401 : (Jvm.Cond.selects "ValleyGuides$Number" ({ cls := "java/lang/Object", name := "equals", desc := "(Ljava/lang/Object;)Z" } : Jvm.MethodName) ({ cls := "java/lang/Object", name := "equals", desc := "(Ljava/lang/Object;)Z" } : Jvm.MethodName)) ∈ lw_all := lw_g (lw_at lw_m6 99 rfl) rfl
theorem q2442 : (Jvm.Cond.castable "ValleyGuides$Number" "java/lang/Object") ∈ lw_tbl := lw_at lw_m10 180 rfl
theorem in_X16 : ∀ w ∈ wsX160, w ∈ lw_all := lw_in wsX160 [1134] (by decide +kernel) (by decide +kernel)
/-! ValleyGuides$Variable -/
set_option maxRecDepth 100000
def RX17 : String := "ValleyGuides$Variable"
def TX17 : u_T := fun k => match k with
  | _ => ("ValleyGuides$Variable", "which", "I", true)
def tyX17 : Nat → FieldType := fun k => match k with
  | _ => .int
abbrev wsX170 : List Cond := u_ws RX17 TX17 1
theorem nmX17 : ∀ a, a < 1 → ∀ b, b < 1 → a ≠ b → (TX17 a).2.1 ≠ (TX17 b).2.1 := by decide +kernel
theorem tyX17_ok : ∀ k, k < 1 → parseFieldDescriptor (TX17 k).2.2.1 = some (tyX17 k) := by decide +kernel
abbrev cX17_init : ByteArray := prog_24_method_1_code
def yX17_init : MethodName := ⟨RX17, "<init>", "(I)V"⟩
def dkwX17_init_0 : List UInt8 := [42, 183, 0, 1, 42, 27, 181, 0, 7, 177]
abbrev dktX17_init_0 : List UInt8 := dkwX17_init_0 ++ []
theorem dksX17_init_0 : cX17_init.data.toList.drop 0 = dktX17_init_0 := by decide +kernel
theorem dX17_init_0 : decode cX17_init 0 = .ok (.aload_n 0, 1) := dk_42 (dk_at dksX17_init_0 0 rfl rfl)
theorem dX17_init_1 : decode cX17_init 1 = .ok (.invokespecial 1, 3) := dk_183 0 1 (dk_at dksX17_init_0 1 rfl rfl)
theorem dX17_init_4 : decode cX17_init 4 = .ok (.aload_n 0, 1) := dk_42 (dk_at dksX17_init_0 4 rfl rfl)
theorem dX17_init_5 : decode cX17_init 5 = .ok (.iload_n 1, 1) := dk_27 (dk_at dksX17_init_0 5 rfl rfl)
theorem dX17_init_6 : decode cX17_init 6 = .ok (.putfield 7, 3) := dk_181 0 7 (dk_at dksX17_init_0 6 rfl rfl)
theorem dX17_init_9 : decode cX17_init 9 = .ok (.return_, 1) := dk_177 (dk_at dksX17_init_0 9 rfl rfl)
abbrev cX17_of : ByteArray := prog_24_method_2_code
def yX17_of : MethodName := ⟨RX17, "of", "([I)I"⟩
def dkwX17_of_0 : List UInt8 := [43, 42, 180, 0, 7, 46, 172]
abbrev dktX17_of_0 : List UInt8 := dkwX17_of_0 ++ []
theorem dksX17_of_0 : cX17_of.data.toList.drop 0 = dktX17_of_0 := by decide +kernel
theorem dX17_of_0 : decode cX17_of 0 = .ok (.aload_n 1, 1) := dk_43 (dk_at dksX17_of_0 0 rfl rfl)
theorem dX17_of_1 : decode cX17_of 1 = .ok (.aload_n 0, 1) := dk_42 (dk_at dksX17_of_0 1 rfl rfl)
theorem dX17_of_2 : decode cX17_of 2 = .ok (.getfield 7, 3) := dk_180 0 7 (dk_at dksX17_of_0 2 rfl rfl)
theorem dX17_of_5 : decode cX17_of 5 = .ok (.iaload, 1) := dk_46 (dk_at dksX17_of_0 5 rfl rfl)
theorem dX17_of_6 : decode cX17_of 6 = .ok (.ireturn, 1) := dk_172 (dk_at dksX17_of_0 6 rfl rfl)
theorem q142 : (Jvm.Cond.initialized "ValleyGuides$Variable") ∈ lw_all := lw_g (lw_at lw_m1 40 rfl) rfl
theorem q394 : (Jvm.Cond.selects "ValleyGuides$Variable" ({ cls := "java/lang/Object", name := "getClass", desc := "()Ljava/lang/Class;" } : Jvm.MethodName) ({ cls := "java/lang/Object", name := "getClass", desc := "()Ljava/lang/Class;" } : Jvm.MethodName)) ∈ lw_all := lw_g (lw_at lw_m2 52 rfl) rfl
theorem q1138 : (Jvm.Cond.instantiable "ValleyGuides$Variable" (1 : Nat)) ∈ lw_all := lw_g (lw_at lw_m5 76 rfl) rfl
theorem q1140 : (Jvm.Cond.instanceMethod ({ cls := "ValleyGuides$Variable", name := "<init>", desc := "(I)V" } : Jvm.MethodName)) ∈ lw_all := lw_g (lw_at lw_m5 78 rfl) rfl
theorem q1141 : (Jvm.Cond.code ({ cls := "ValleyGuides$Variable", name := "<init>", desc := "(I)V" } : Jvm.MethodName) prog_24_method_1_code (2 : Nat) (Option.none : Option Jvm.ClassFile.FieldType)) ∈ lw_all := lw_g (lw_at lw_m5 79 rfl) rfl
theorem q1142 : (Jvm.Cond.methodLinkNest "ValleyGuides$Variable" (1 : Nat) ({ cls := "ValleyGuides$Part", name := "<init>", desc := "()V" } : Jvm.MethodName) "ValleyGuides") ∈ lw_tbl := lw_at lw_m5 80 rfl
theorem q1143 : (Jvm.Cond.fieldLink "ValleyGuides$Variable" (7 : Nat) "ValleyGuides$Variable" "which" "I") ∈ lw_all := lw_g (lw_at lw_m5 81 rfl) rfl
theorem q1144 : (Jvm.Cond.laysFinal "ValleyGuides$Variable" "ValleyGuides$Variable" "which" "I") ∈ lw_all := lw_g (lw_at lw_m5 82 rfl) rfl
theorem q1145 : (Jvm.Cond.soleField "ValleyGuides$Variable" "which") ∈ lw_all := lw_g (lw_at lw_m5 83 rfl) rfl
theorem q1146 : (Jvm.Cond.superclass "ValleyGuides$Variable" "ValleyGuides$Part") ∈ lw_all := lw_g (lw_at lw_m5 84 rfl) rfl
theorem q1280 : (Jvm.Cond.instanceMethod ({ cls := "ValleyGuides$Variable", name := "of", desc := "([I)I" } : Jvm.MethodName)) ∈ lw_all := lw_g (lw_at lw_m5 218 rfl) rfl
theorem q1281 : (Jvm.Cond.code ({ cls := "ValleyGuides$Variable", name := "of", desc := "([I)I" } : Jvm.MethodName) prog_24_method_2_code (2 : Nat) (Option.some Jvm.ClassFile.FieldType.int)) ∈ lw_all := lw_g (lw_at lw_m5 219 rfl) rfl
theorem q1310 : (Jvm.Cond.selects "ValleyGuides$Variable" ({ cls := "ValleyGuides$Part", name := "of", desc := "([I)I" } : Jvm.MethodName) ({ cls := "ValleyGuides$Variable", name := "of", desc := "([I)I" } : Jvm.MethodName)) ∈ lw_all := lw_g (lw_at lw_m6 8 rfl) rfl
theorem q1412 : (Jvm.Cond.selects "ValleyGuides$Variable" ({ cls := "java/lang/Object", name := "equals", desc := "(Ljava/lang/Object;)Z" } : Jvm.MethodName) ({ cls := "java/lang/Object", name := "equals", desc := "(Ljava/lang/Object;)Z" } : Jvm.MethodName)) ∈ lw_all := lw_g (lw_at lw_m6 110 rfl) rfl
theorem q2443 : (Jvm.Cond.castable "ValleyGuides$Variable" "java/lang/Object") ∈ lw_tbl := lw_at lw_m10 181 rfl
theorem in_X17 : ∀ w ∈ wsX170, w ∈ lw_all := lw_in wsX170 [1144] (by decide +kernel) (by decide +kernel)
/-! ValleyGuides$Two -/
set_option maxRecDepth 100000
def RX18 : String := "ValleyGuides$Two"
abbrev cX18_init : ByteArray := prog_23_method_1_code
def yX18_init : MethodName := ⟨RX18, "<init>", "(LValleyGuides$Part;LValleyGuides$Part;)V"⟩
def dkwX18_init_0 : List UInt8 := [42, 183, 0, 1, 42, 43, 181, 0, 7, 42, 44, 181, 0, 13, 177]
abbrev dktX18_init_0 : List UInt8 := dkwX18_init_0 ++ []
theorem dksX18_init_0 : cX18_init.data.toList.drop 0 = dktX18_init_0 := by decide +kernel
theorem dX18_init_0 : decode cX18_init 0 = .ok (.aload_n 0, 1) := dk_42 (dk_at dksX18_init_0 0 rfl rfl)
theorem dX18_init_1 : decode cX18_init 1 = .ok (.invokespecial 1, 3) := dk_183 0 1 (dk_at dksX18_init_0 1 rfl rfl)
theorem dX18_init_4 : decode cX18_init 4 = .ok (.aload_n 0, 1) := dk_42 (dk_at dksX18_init_0 4 rfl rfl)
theorem dX18_init_5 : decode cX18_init 5 = .ok (.aload_n 1, 1) := dk_43 (dk_at dksX18_init_0 5 rfl rfl)
theorem dX18_init_6 : decode cX18_init 6 = .ok (.putfield 7, 3) := dk_181 0 7 (dk_at dksX18_init_0 6 rfl rfl)
theorem dX18_init_9 : decode cX18_init 9 = .ok (.aload_n 0, 1) := dk_42 (dk_at dksX18_init_0 9 rfl rfl)
theorem dX18_init_10 : decode cX18_init 10 = .ok (.aload_n 2, 1) := dk_44 (dk_at dksX18_init_0 10 rfl rfl)
theorem dX18_init_11 : decode cX18_init 11 = .ok (.putfield 13, 3) := dk_181 0 13 (dk_at dksX18_init_0 11 rfl rfl)
theorem dX18_init_14 : decode cX18_init 14 = .ok (.return_, 1) := dk_177 (dk_at dksX18_init_0 14 rfl rfl)
theorem q143 : (Jvm.Cond.initialized "ValleyGuides$Two") ∈ lw_all := lw_g (lw_at lw_m1 41 rfl) rfl
theorem q1157 : (Jvm.Cond.instanceMethod ({ cls := "ValleyGuides$Two", name := "<init>", desc := "(LValleyGuides$Part;LValleyGuides$Part;)V" } : Jvm.MethodName)) ∈ lw_all := lw_g (lw_at lw_m5 95 rfl) rfl
theorem q1158 : (Jvm.Cond.code ({ cls := "ValleyGuides$Two", name := "<init>", desc := "(LValleyGuides$Part;LValleyGuides$Part;)V" } : Jvm.MethodName) prog_23_method_1_code (3 : Nat) (Option.none : Option Jvm.ClassFile.FieldType)) ∈ lw_all := lw_g (lw_at lw_m5 96 rfl) rfl
theorem q1159 : (Jvm.Cond.methodLinkNest "ValleyGuides$Two" (1 : Nat) ({ cls := "ValleyGuides$Part", name := "<init>", desc := "()V" } : Jvm.MethodName) "ValleyGuides") ∈ lw_tbl := lw_at lw_m5 97 rfl
theorem q1161 : (Jvm.Cond.fieldLink "ValleyGuides$Two" (7 : Nat) "ValleyGuides$Two" "a" "LValleyGuides$Part;") ∈ lw_all := lw_g (lw_at lw_m5 99 rfl) rfl
theorem q1168 : (Jvm.Cond.fieldLink "ValleyGuides$Two" (13 : Nat) "ValleyGuides$Two" "b" "LValleyGuides$Part;") ∈ lw_all := lw_g (lw_at lw_m5 106 rfl) rfl
theorem q1178 : (Jvm.Cond.soleField "ValleyGuides$Two" "a") ∈ lw_all := lw_g (lw_at lw_m5 116 rfl) rfl
theorem q1180 : (Jvm.Cond.soleField "ValleyGuides$Two" "b") ∈ lw_all := lw_g (lw_at lw_m5 118 rfl) rfl
/-! ValleyGuides$Sum -/
set_option maxRecDepth 100000
def RX19 : String := "ValleyGuides$Sum"
def TX19 : u_T := fun k => match k with
  | 0 => ("ValleyGuides$Two", "a", "LValleyGuides$Part;", true)
  | 1 => ("ValleyGuides$Two", "b", "LValleyGuides$Part;", true)
  | _ => ("ValleyGuides$Sum", "sign", "I", true)
def tyX19 : Nat → FieldType := fun k => match k with
  | 0 => .object "ValleyGuides$Part"
  | 1 => .object "ValleyGuides$Part"
  | _ => .int
abbrev wsX190 : List Cond := u_ws RX19 TX19 3
theorem nmX19 : ∀ a, a < 3 → ∀ b, b < 3 → a ≠ b → (TX19 a).2.1 ≠ (TX19 b).2.1 := by decide +kernel
theorem tyX19_ok : ∀ k, k < 3 → parseFieldDescriptor (TX19 k).2.2.1 = some (tyX19 k) := by decide +kernel
abbrev cX19_init : ByteArray := prog_22_method_1_code
def yX19_init : MethodName := ⟨RX19, "<init>", "(LValleyGuides$Part;LValleyGuides$Part;I)V"⟩
def dkwX19_init_0 : List UInt8 := [42, 43, 44, 183, 0, 1, 42, 29, 181, 0, 7, 177]
abbrev dktX19_init_0 : List UInt8 := dkwX19_init_0 ++ []
theorem dksX19_init_0 : cX19_init.data.toList.drop 0 = dktX19_init_0 := by decide +kernel
theorem dX19_init_0 : decode cX19_init 0 = .ok (.aload_n 0, 1) := dk_42 (dk_at dksX19_init_0 0 rfl rfl)
theorem dX19_init_1 : decode cX19_init 1 = .ok (.aload_n 1, 1) := dk_43 (dk_at dksX19_init_0 1 rfl rfl)
theorem dX19_init_2 : decode cX19_init 2 = .ok (.aload_n 2, 1) := dk_44 (dk_at dksX19_init_0 2 rfl rfl)
theorem dX19_init_3 : decode cX19_init 3 = .ok (.invokespecial 1, 3) := dk_183 0 1 (dk_at dksX19_init_0 3 rfl rfl)
theorem dX19_init_6 : decode cX19_init 6 = .ok (.aload_n 0, 1) := dk_42 (dk_at dksX19_init_0 6 rfl rfl)
theorem dX19_init_7 : decode cX19_init 7 = .ok (.iload_n 3, 1) := dk_29 (dk_at dksX19_init_0 7 rfl rfl)
theorem dX19_init_8 : decode cX19_init 8 = .ok (.putfield 7, 3) := dk_181 0 7 (dk_at dksX19_init_0 8 rfl rfl)
theorem dX19_init_11 : decode cX19_init 11 = .ok (.return_, 1) := dk_177 (dk_at dksX19_init_0 11 rfl rfl)
abbrev cX19_of : ByteArray := prog_22_method_2_code
def yX19_of : MethodName := ⟨RX19, "of", "([I)I"⟩
def dkwX19_of_2 : List UInt8 := [32, 22, 4, 101, 167, 0, 7, 32, 22, 4, 105, 184, 0, 26, 172]
abbrev dktX19_of_2 : List UInt8 := dkwX19_of_2 ++ []
def dkwX19_of_1 : List UInt8 := [180, 0, 7, 16, 43, 160, 0, 10, 32, 22, 4, 97, 167, 0, 23, 42, 180, 0, 7, 16, 45, 160, 0, 10]
abbrev dktX19_of_1 : List UInt8 := dkwX19_of_1 ++ dktX19_of_2
def dkwX19_of_0 : List UInt8 := [42, 180, 0, 13, 43, 182, 0, 17, 133, 65, 42, 180, 0, 23, 43, 182, 0, 17, 133, 55, 4, 42]
abbrev dktX19_of_0 : List UInt8 := dkwX19_of_0 ++ dktX19_of_1
theorem dksX19_of_0 : cX19_of.data.toList.drop 0 = dktX19_of_0 := by decide +kernel
theorem dksX19_of_1 : cX19_of.data.toList.drop 22 = dktX19_of_1 := dk_seg dksX19_of_0 22 rfl rfl
theorem dksX19_of_2 : cX19_of.data.toList.drop 46 = dktX19_of_2 := dk_seg dksX19_of_1 24 rfl rfl
theorem dX19_of_0 : decode cX19_of 0 = .ok (.aload_n 0, 1) := dk_42 (dk_at dksX19_of_0 0 rfl rfl)
theorem dX19_of_1 : decode cX19_of 1 = .ok (.getfield 13, 3) := dk_180 0 13 (dk_at dksX19_of_0 1 rfl rfl)
theorem dX19_of_4 : decode cX19_of 4 = .ok (.aload_n 1, 1) := dk_43 (dk_at dksX19_of_0 4 rfl rfl)
theorem dX19_of_5 : decode cX19_of 5 = .ok (.invokevirtual 17, 3) := dk_182 0 17 (dk_at dksX19_of_0 5 rfl rfl)
theorem dX19_of_8 : decode cX19_of 8 = .ok (.i2l, 1) := dk_133 (dk_at dksX19_of_0 8 rfl rfl)
theorem dX19_of_9 : decode cX19_of 9 = .ok (.lstore_n 2, 1) := dk_65 (dk_at dksX19_of_0 9 rfl rfl)
theorem dX19_of_10 : decode cX19_of 10 = .ok (.aload_n 0, 1) := dk_42 (dk_at dksX19_of_0 10 rfl rfl)
theorem dX19_of_11 : decode cX19_of 11 = .ok (.getfield 23, 3) := dk_180 0 23 (dk_at dksX19_of_0 11 rfl rfl)
theorem dX19_of_14 : decode cX19_of 14 = .ok (.aload_n 1, 1) := dk_43 (dk_at dksX19_of_0 14 rfl rfl)
theorem dX19_of_15 : decode cX19_of 15 = .ok (.invokevirtual 17, 3) := dk_182 0 17 (dk_at dksX19_of_0 15 rfl rfl)
theorem dX19_of_18 : decode cX19_of 18 = .ok (.i2l, 1) := dk_133 (dk_at dksX19_of_0 18 rfl rfl)
theorem dX19_of_19 : decode cX19_of 19 = .ok (.lstore 4, 2) := dk_55 4 (dk_at dksX19_of_0 19 rfl rfl)
theorem dX19_of_21 : decode cX19_of 21 = .ok (.aload_n 0, 1) := dk_42 (dk_at dksX19_of_0 21 rfl rfl)
theorem dX19_of_22 : decode cX19_of 22 = .ok (.getfield 7, 3) := dk_180 0 7 (dk_at dksX19_of_1 0 rfl rfl)
theorem dX19_of_25 : decode cX19_of 25 = .ok (.bipush 43, 2) := dk_16 43 (dk_at dksX19_of_1 3 rfl rfl)
theorem dX19_of_27 : decode cX19_of 27 = .ok (.if_icmp .ne 10, 3) := dk_160 0 10 (dk_at dksX19_of_1 5 rfl rfl)
theorem dX19_of_30 : decode cX19_of 30 = .ok (.lload_n 2, 1) := dk_32 (dk_at dksX19_of_1 8 rfl rfl)
theorem dX19_of_31 : decode cX19_of 31 = .ok (.lload 4, 2) := dk_22 4 (dk_at dksX19_of_1 9 rfl rfl)
theorem dX19_of_33 : decode cX19_of 33 = .ok (.ladd, 1) := dk_97 (dk_at dksX19_of_1 11 rfl rfl)
theorem dX19_of_34 : decode cX19_of 34 = .ok (.goto 23, 3) := dk_167 0 23 (dk_at dksX19_of_1 12 rfl rfl)
theorem dX19_of_37 : decode cX19_of 37 = .ok (.aload_n 0, 1) := dk_42 (dk_at dksX19_of_1 15 rfl rfl)
theorem dX19_of_38 : decode cX19_of 38 = .ok (.getfield 7, 3) := dk_180 0 7 (dk_at dksX19_of_1 16 rfl rfl)
theorem dX19_of_41 : decode cX19_of 41 = .ok (.bipush 45, 2) := dk_16 45 (dk_at dksX19_of_1 19 rfl rfl)
theorem dX19_of_43 : decode cX19_of 43 = .ok (.if_icmp .ne 10, 3) := dk_160 0 10 (dk_at dksX19_of_1 21 rfl rfl)
theorem dX19_of_46 : decode cX19_of 46 = .ok (.lload_n 2, 1) := dk_32 (dk_at dksX19_of_2 0 rfl rfl)
theorem dX19_of_47 : decode cX19_of 47 = .ok (.lload 4, 2) := dk_22 4 (dk_at dksX19_of_2 1 rfl rfl)
theorem dX19_of_49 : decode cX19_of 49 = .ok (.lsub, 1) := dk_101 (dk_at dksX19_of_2 3 rfl rfl)
theorem dX19_of_50 : decode cX19_of 50 = .ok (.goto 7, 3) := dk_167 0 7 (dk_at dksX19_of_2 4 rfl rfl)
theorem dX19_of_53 : decode cX19_of 53 = .ok (.lload_n 2, 1) := dk_32 (dk_at dksX19_of_2 7 rfl rfl)
theorem dX19_of_54 : decode cX19_of 54 = .ok (.lload 4, 2) := dk_22 4 (dk_at dksX19_of_2 8 rfl rfl)
theorem dX19_of_56 : decode cX19_of 56 = .ok (.lmul, 1) := dk_105 (dk_at dksX19_of_2 10 rfl rfl)
theorem dX19_of_57 : decode cX19_of 57 = .ok (.invokestatic 26, 3) := dk_184 0 26 (dk_at dksX19_of_2 11 rfl rfl)
theorem dX19_of_60 : decode cX19_of 60 = .ok (.ireturn, 1) := dk_172 (dk_at dksX19_of_2 14 rfl rfl)
theorem q144 : (Jvm.Cond.initialized "ValleyGuides$Sum") ∈ lw_all := lw_g (lw_at lw_m1 42 rfl) rfl
theorem q393 : (Jvm.Cond.selects "ValleyGuides$Sum" ({ cls := "java/lang/Object", name := "getClass", desc := "()Ljava/lang/Class;" } : Jvm.MethodName) ({ cls := "java/lang/Object", name := "getClass", desc := "()Ljava/lang/Class;" } : Jvm.MethodName)) ∈ lw_all := lw_g (lw_at lw_m2 51 rfl) rfl
theorem q1152 : (Jvm.Cond.instantiable "ValleyGuides$Sum" (3 : Nat)) ∈ lw_all := lw_g (lw_at lw_m5 90 rfl) rfl
theorem q1154 : (Jvm.Cond.instanceMethod ({ cls := "ValleyGuides$Sum", name := "<init>", desc := "(LValleyGuides$Part;LValleyGuides$Part;I)V" } : Jvm.MethodName)) ∈ lw_all := lw_g (lw_at lw_m5 92 rfl) rfl
theorem q1155 : (Jvm.Cond.code ({ cls := "ValleyGuides$Sum", name := "<init>", desc := "(LValleyGuides$Part;LValleyGuides$Part;I)V" } : Jvm.MethodName) prog_22_method_1_code (4 : Nat) (Option.none : Option Jvm.ClassFile.FieldType)) ∈ lw_all := lw_g (lw_at lw_m5 93 rfl) rfl
theorem q1156 : (Jvm.Cond.methodLink "ValleyGuides$Sum" (1 : Nat) ({ cls := "ValleyGuides$Two", name := "<init>", desc := "(LValleyGuides$Part;LValleyGuides$Part;)V" } : Jvm.MethodName)) ∈ lw_all := lw_g (lw_at lw_m5 94 rfl) rfl
theorem q1160 : (Jvm.Cond.fieldLink "ValleyGuides$Sum" (7 : Nat) "ValleyGuides$Sum" "sign" "I") ∈ lw_all := lw_g (lw_at lw_m5 98 rfl) rfl
theorem q1164 : (Jvm.Cond.fieldLink "ValleyGuides$Sum" (13 : Nat) "ValleyGuides$Sum" "a" "LValleyGuides$Part;") ∈ lw_all := lw_g (lw_at lw_m5 102 rfl) rfl
theorem q1165 : (Jvm.Cond.sameField "ValleyGuides$Sum" "ValleyGuides$Two" "a" "LValleyGuides$Part;") ∈ lw_all := lw_g (lw_at lw_m5 103 rfl) rfl
theorem q1173 : (Jvm.Cond.fieldLink "ValleyGuides$Sum" (23 : Nat) "ValleyGuides$Sum" "b" "LValleyGuides$Part;") ∈ lw_all := lw_g (lw_at lw_m5 111 rfl) rfl
theorem q1174 : (Jvm.Cond.sameField "ValleyGuides$Sum" "ValleyGuides$Two" "b" "LValleyGuides$Part;") ∈ lw_all := lw_g (lw_at lw_m5 112 rfl) rfl
theorem q1175 : (Jvm.Cond.laysFinal "ValleyGuides$Sum" "ValleyGuides$Sum" "sign" "I") ∈ lw_all := lw_g (lw_at lw_m5 113 rfl) rfl
theorem q1176 : (Jvm.Cond.soleField "ValleyGuides$Sum" "sign") ∈ lw_all := lw_g (lw_at lw_m5 114 rfl) rfl
theorem q1177 : (Jvm.Cond.laysFinal "ValleyGuides$Sum" "ValleyGuides$Two" "a" "LValleyGuides$Part;") ∈ lw_all := lw_g (lw_at lw_m5 115 rfl) rfl
theorem q1179 : (Jvm.Cond.laysFinal "ValleyGuides$Sum" "ValleyGuides$Two" "b" "LValleyGuides$Part;") ∈ lw_all := lw_g (lw_at lw_m5 117 rfl) rfl
theorem q1181 : (Jvm.Cond.superclass "ValleyGuides$Sum" "ValleyGuides$Two") ∈ lw_all := lw_g (lw_at lw_m5 119 rfl) rfl
theorem q1277 : (Jvm.Cond.instanceMethod ({ cls := "ValleyGuides$Sum", name := "of", desc := "([I)I" } : Jvm.MethodName)) ∈ lw_all := lw_g (lw_at lw_m5 215 rfl) rfl
theorem q1278 : (Jvm.Cond.code ({ cls := "ValleyGuides$Sum", name := "of", desc := "([I)I" } : Jvm.MethodName) prog_22_method_2_code (6 : Nat) (Option.some Jvm.ClassFile.FieldType.int)) ∈ lw_all := lw_g (lw_at lw_m5 216 rfl) rfl
theorem q1279 : (Jvm.Cond.methodLink "ValleyGuides$Sum" (17 : Nat) ({ cls := "ValleyGuides$Part", name := "of", desc := "([I)I" } : Jvm.MethodName)) ∈ lw_all := lw_g (lw_at lw_m5 217 rfl) rfl
theorem q1282 : (Jvm.Cond.methodLinkNest "ValleyGuides$Sum" (26 : Nat) ({ cls := "ValleyGuides", name := "held", desc := "(J)I" } : Jvm.MethodName) "ValleyGuides") ∈ lw_tbl := lw_at lw_m5 220 rfl
theorem q1309 : (Jvm.Cond.selects "ValleyGuides$Sum" ({ cls := "ValleyGuides$Part", name := "of", desc := "([I)I" } : Jvm.MethodName) ({ cls := "ValleyGuides$Sum", name := "of", desc := "([I)I" } : Jvm.MethodName)) ∈ lw_all := lw_g (lw_at lw_m6 7 rfl) rfl
theorem q1411 : (Jvm.Cond.selects "ValleyGuides$Sum" ({ cls := "java/lang/Object", name := "equals", desc := "(Ljava/lang/Object;)Z" } : Jvm.MethodName) ({ cls := "java/lang/Object", name := "equals", desc := "(Ljava/lang/Object;)Z" } : Jvm.MethodName)) ∈ lw_all := lw_g (lw_at lw_m6 109 rfl) rfl
theorem q2444 : (Jvm.Cond.castable "ValleyGuides$Sum" "java/lang/Object") ∈ lw_tbl := lw_at lw_m10 182 rfl
theorem in_X19 : ∀ w ∈ wsX190, w ∈ lw_all := lw_in wsX190 [1177, 1179, 1175] (by decide +kernel) (by decide +kernel)
/-! ValleyGuides$Relation -/
set_option maxRecDepth 100000
def RX20 : String := "ValleyGuides$Relation"
def TX20 : u_T := fun k => match k with
  | 0 => ("ValleyGuides$Two", "a", "LValleyGuides$Part;", true)
  | 1 => ("ValleyGuides$Two", "b", "LValleyGuides$Part;", true)
  | _ => ("ValleyGuides$Relation", "sign", "I", true)
def tyX20 : Nat → FieldType := fun k => match k with
  | 0 => .object "ValleyGuides$Part"
  | 1 => .object "ValleyGuides$Part"
  | _ => .int
abbrev wsX200 : List Cond := u_ws RX20 TX20 3
theorem nmX20 : ∀ a, a < 3 → ∀ b, b < 3 → a ≠ b → (TX20 a).2.1 ≠ (TX20 b).2.1 := by decide +kernel
theorem tyX20_ok : ∀ k, k < 3 → parseFieldDescriptor (TX20 k).2.2.1 = some (tyX20 k) := by decide +kernel
abbrev cX20_init : ByteArray := prog_14_method_1_code
def yX20_init : MethodName := ⟨RX20, "<init>", "(LValleyGuides$Part;LValleyGuides$Part;I)V"⟩
def dkwX20_init_0 : List UInt8 := [42, 43, 44, 183, 0, 1, 42, 29, 181, 0, 7, 177]
abbrev dktX20_init_0 : List UInt8 := dkwX20_init_0 ++ []
theorem dksX20_init_0 : cX20_init.data.toList.drop 0 = dktX20_init_0 := by decide +kernel
theorem dX20_init_0 : decode cX20_init 0 = .ok (.aload_n 0, 1) := dk_42 (dk_at dksX20_init_0 0 rfl rfl)
theorem dX20_init_1 : decode cX20_init 1 = .ok (.aload_n 1, 1) := dk_43 (dk_at dksX20_init_0 1 rfl rfl)
theorem dX20_init_2 : decode cX20_init 2 = .ok (.aload_n 2, 1) := dk_44 (dk_at dksX20_init_0 2 rfl rfl)
theorem dX20_init_3 : decode cX20_init 3 = .ok (.invokespecial 1, 3) := dk_183 0 1 (dk_at dksX20_init_0 3 rfl rfl)
theorem dX20_init_6 : decode cX20_init 6 = .ok (.aload_n 0, 1) := dk_42 (dk_at dksX20_init_0 6 rfl rfl)
theorem dX20_init_7 : decode cX20_init 7 = .ok (.iload_n 3, 1) := dk_29 (dk_at dksX20_init_0 7 rfl rfl)
theorem dX20_init_8 : decode cX20_init 8 = .ok (.putfield 7, 3) := dk_181 0 7 (dk_at dksX20_init_0 8 rfl rfl)
theorem dX20_init_11 : decode cX20_init 11 = .ok (.return_, 1) := dk_177 (dk_at dksX20_init_0 11 rfl rfl)
abbrev cX20_of : ByteArray := prog_14_method_2_code
def yX20_of : MethodName := ⟨RX20, "of", "([I)I"⟩
def dkwX20_of_2 : List UInt8 := [158, 0, 14, 167, 0, 7, 28, 154, 0, 7, 4, 167, 0, 4, 3, 172]
abbrev dktX20_of_2 : List UInt8 := dkwX20_of_2 ++ []
def dkwX20_of_1 : List UInt8 := [16, 60, 160, 0, 10, 28, 156, 0, 30, 167, 0, 23, 42, 180, 0, 7, 16, 62, 160, 0, 10, 28]
abbrev dktX20_of_1 : List UInt8 := dkwX20_of_1 ++ dktX20_of_2
def dkwX20_of_0 : List UInt8 := [42, 180, 0, 13, 43, 182, 0, 17, 42, 180, 0, 23, 43, 182, 0, 17, 184, 0, 26, 61, 42, 180, 0, 7]
abbrev dktX20_of_0 : List UInt8 := dkwX20_of_0 ++ dktX20_of_1
theorem dksX20_of_0 : cX20_of.data.toList.drop 0 = dktX20_of_0 := by decide +kernel
theorem dksX20_of_1 : cX20_of.data.toList.drop 24 = dktX20_of_1 := dk_seg dksX20_of_0 24 rfl rfl
theorem dksX20_of_2 : cX20_of.data.toList.drop 46 = dktX20_of_2 := dk_seg dksX20_of_1 22 rfl rfl
theorem dX20_of_0 : decode cX20_of 0 = .ok (.aload_n 0, 1) := dk_42 (dk_at dksX20_of_0 0 rfl rfl)
theorem dX20_of_1 : decode cX20_of 1 = .ok (.getfield 13, 3) := dk_180 0 13 (dk_at dksX20_of_0 1 rfl rfl)
theorem dX20_of_4 : decode cX20_of 4 = .ok (.aload_n 1, 1) := dk_43 (dk_at dksX20_of_0 4 rfl rfl)
theorem dX20_of_5 : decode cX20_of 5 = .ok (.invokevirtual 17, 3) := dk_182 0 17 (dk_at dksX20_of_0 5 rfl rfl)
theorem dX20_of_8 : decode cX20_of 8 = .ok (.aload_n 0, 1) := dk_42 (dk_at dksX20_of_0 8 rfl rfl)
theorem dX20_of_9 : decode cX20_of 9 = .ok (.getfield 23, 3) := dk_180 0 23 (dk_at dksX20_of_0 9 rfl rfl)
theorem dX20_of_12 : decode cX20_of 12 = .ok (.aload_n 1, 1) := dk_43 (dk_at dksX20_of_0 12 rfl rfl)
theorem dX20_of_13 : decode cX20_of 13 = .ok (.invokevirtual 17, 3) := dk_182 0 17 (dk_at dksX20_of_0 13 rfl rfl)
theorem dX20_of_16 : decode cX20_of 16 = .ok (.invokestatic 26, 3) := dk_184 0 26 (dk_at dksX20_of_0 16 rfl rfl)
theorem dX20_of_19 : decode cX20_of 19 = .ok (.istore_n 2, 1) := dk_61 (dk_at dksX20_of_0 19 rfl rfl)
theorem dX20_of_20 : decode cX20_of 20 = .ok (.aload_n 0, 1) := dk_42 (dk_at dksX20_of_0 20 rfl rfl)
theorem dX20_of_21 : decode cX20_of 21 = .ok (.getfield 7, 3) := dk_180 0 7 (dk_at dksX20_of_0 21 rfl rfl)
theorem dX20_of_24 : decode cX20_of 24 = .ok (.bipush 60, 2) := dk_16 60 (dk_at dksX20_of_1 0 rfl rfl)
theorem dX20_of_26 : decode cX20_of 26 = .ok (.if_icmp .ne 10, 3) := dk_160 0 10 (dk_at dksX20_of_1 2 rfl rfl)
theorem dX20_of_29 : decode cX20_of 29 = .ok (.iload_n 2, 1) := dk_28 (dk_at dksX20_of_1 5 rfl rfl)
theorem dX20_of_30 : decode cX20_of 30 = .ok (.ifCond .ge 30, 3) := dk_156 0 30 (dk_at dksX20_of_1 6 rfl rfl)
theorem dX20_of_33 : decode cX20_of 33 = .ok (.goto 23, 3) := dk_167 0 23 (dk_at dksX20_of_1 9 rfl rfl)
theorem dX20_of_36 : decode cX20_of 36 = .ok (.aload_n 0, 1) := dk_42 (dk_at dksX20_of_1 12 rfl rfl)
theorem dX20_of_37 : decode cX20_of 37 = .ok (.getfield 7, 3) := dk_180 0 7 (dk_at dksX20_of_1 13 rfl rfl)
theorem dX20_of_40 : decode cX20_of 40 = .ok (.bipush 62, 2) := dk_16 62 (dk_at dksX20_of_1 16 rfl rfl)
theorem dX20_of_42 : decode cX20_of 42 = .ok (.if_icmp .ne 10, 3) := dk_160 0 10 (dk_at dksX20_of_1 18 rfl rfl)
theorem dX20_of_45 : decode cX20_of 45 = .ok (.iload_n 2, 1) := dk_28 (dk_at dksX20_of_1 21 rfl rfl)
theorem dX20_of_46 : decode cX20_of 46 = .ok (.ifCond .le 14, 3) := dk_158 0 14 (dk_at dksX20_of_2 0 rfl rfl)
theorem dX20_of_49 : decode cX20_of 49 = .ok (.goto 7, 3) := dk_167 0 7 (dk_at dksX20_of_2 3 rfl rfl)
theorem dX20_of_52 : decode cX20_of 52 = .ok (.iload_n 2, 1) := dk_28 (dk_at dksX20_of_2 6 rfl rfl)
theorem dX20_of_53 : decode cX20_of 53 = .ok (.ifCond .ne 7, 3) := dk_154 0 7 (dk_at dksX20_of_2 7 rfl rfl)
theorem dX20_of_56 : decode cX20_of 56 = .ok (.iconst 1, 1) := dk_4 (dk_at dksX20_of_2 10 rfl rfl)
theorem dX20_of_57 : decode cX20_of 57 = .ok (.goto 4, 3) := dk_167 0 4 (dk_at dksX20_of_2 11 rfl rfl)
theorem dX20_of_60 : decode cX20_of 60 = .ok (.iconst 0, 1) := dk_3 (dk_at dksX20_of_2 14 rfl rfl)
theorem dX20_of_61 : decode cX20_of 61 = .ok (.ireturn, 1) := dk_172 (dk_at dksX20_of_2 15 rfl rfl)
theorem q145 : (Jvm.Cond.initialized "ValleyGuides$Relation") ∈ lw_all := lw_g (lw_at lw_m1 43 rfl) rfl
theorem q386 : (Jvm.Cond.selects "ValleyGuides$Relation" ({ cls := "java/lang/Object", name := "getClass", desc := "()Ljava/lang/Class;" } : Jvm.MethodName) ({ cls := "java/lang/Object", name := "getClass", desc := "()Ljava/lang/Class;" } : Jvm.MethodName)) ∈ lw_all := lw_g (lw_at lw_m2 44 rfl) rfl
theorem q1162 : (Jvm.Cond.fieldLink "ValleyGuides$Relation" (13 : Nat) "ValleyGuides$Relation" "a" "LValleyGuides$Part;") ∈ lw_all := lw_g (lw_at lw_m5 100 rfl) rfl
theorem q1163 : (Jvm.Cond.sameField "ValleyGuides$Relation" "ValleyGuides$Two" "a" "LValleyGuides$Part;") ∈ lw_all := lw_g (lw_at lw_m5 101 rfl) rfl
theorem q1169 : (Jvm.Cond.fieldLink "ValleyGuides$Relation" (23 : Nat) "ValleyGuides$Relation" "b" "LValleyGuides$Part;") ∈ lw_all := lw_g (lw_at lw_m5 107 rfl) rfl
theorem q1170 : (Jvm.Cond.sameField "ValleyGuides$Relation" "ValleyGuides$Two" "b" "LValleyGuides$Part;") ∈ lw_all := lw_g (lw_at lw_m5 108 rfl) rfl
theorem q1183 : (Jvm.Cond.instantiable "ValleyGuides$Relation" (3 : Nat)) ∈ lw_all := lw_g (lw_at lw_m5 121 rfl) rfl
theorem q1185 : (Jvm.Cond.instanceMethod ({ cls := "ValleyGuides$Relation", name := "<init>", desc := "(LValleyGuides$Part;LValleyGuides$Part;I)V" } : Jvm.MethodName)) ∈ lw_all := lw_g (lw_at lw_m5 123 rfl) rfl
theorem q1186 : (Jvm.Cond.code ({ cls := "ValleyGuides$Relation", name := "<init>", desc := "(LValleyGuides$Part;LValleyGuides$Part;I)V" } : Jvm.MethodName) prog_14_method_1_code (4 : Nat) (Option.none : Option Jvm.ClassFile.FieldType)) ∈ lw_all := lw_g (lw_at lw_m5 124 rfl) rfl
theorem q1187 : (Jvm.Cond.methodLink "ValleyGuides$Relation" (1 : Nat) ({ cls := "ValleyGuides$Two", name := "<init>", desc := "(LValleyGuides$Part;LValleyGuides$Part;)V" } : Jvm.MethodName)) ∈ lw_all := lw_g (lw_at lw_m5 125 rfl) rfl
theorem q1188 : (Jvm.Cond.fieldLink "ValleyGuides$Relation" (7 : Nat) "ValleyGuides$Relation" "sign" "I") ∈ lw_all := lw_g (lw_at lw_m5 126 rfl) rfl
theorem q1189 : (Jvm.Cond.laysFinal "ValleyGuides$Relation" "ValleyGuides$Relation" "sign" "I") ∈ lw_all := lw_g (lw_at lw_m5 127 rfl) rfl
theorem q1190 : (Jvm.Cond.soleField "ValleyGuides$Relation" "sign") ∈ lw_all := lw_g (lw_at lw_m5 128 rfl) rfl
theorem q1191 : (Jvm.Cond.laysFinal "ValleyGuides$Relation" "ValleyGuides$Two" "a" "LValleyGuides$Part;") ∈ lw_all := lw_g (lw_at lw_m5 129 rfl) rfl
theorem q1192 : (Jvm.Cond.laysFinal "ValleyGuides$Relation" "ValleyGuides$Two" "b" "LValleyGuides$Part;") ∈ lw_all := lw_g (lw_at lw_m5 130 rfl) rfl
theorem q1193 : (Jvm.Cond.superclass "ValleyGuides$Relation" "ValleyGuides$Two") ∈ lw_all := lw_g (lw_at lw_m5 131 rfl) rfl
theorem q1274 : (Jvm.Cond.instanceMethod ({ cls := "ValleyGuides$Relation", name := "of", desc := "([I)I" } : Jvm.MethodName)) ∈ lw_all := lw_g (lw_at lw_m5 212 rfl) rfl
theorem q1275 : (Jvm.Cond.code ({ cls := "ValleyGuides$Relation", name := "of", desc := "([I)I" } : Jvm.MethodName) prog_14_method_2_code (3 : Nat) (Option.some Jvm.ClassFile.FieldType.int)) ∈ lw_all := lw_g (lw_at lw_m5 213 rfl) rfl
theorem q1276 : (Jvm.Cond.methodLink "ValleyGuides$Relation" (17 : Nat) ({ cls := "ValleyGuides$Part", name := "of", desc := "([I)I" } : Jvm.MethodName)) ∈ lw_all := lw_g (lw_at lw_m5 214 rfl) rfl
theorem q1293 : (Jvm.Cond.methodLink "ValleyGuides$Relation" (26 : Nat) ({ cls := "java/lang/Integer", name := "compare", desc := "(II)I" } : Jvm.MethodName)) ∈ lw_all := lw_g (lw_at lw_m5 231 rfl) rfl
theorem q1308 : (Jvm.Cond.selects "ValleyGuides$Relation" ({ cls := "ValleyGuides$Part", name := "of", desc := "([I)I" } : Jvm.MethodName) ({ cls := "ValleyGuides$Relation", name := "of", desc := "([I)I" } : Jvm.MethodName)) ∈ lw_all := lw_g (lw_at lw_m6 6 rfl) rfl
theorem q1404 : (Jvm.Cond.selects "ValleyGuides$Relation" ({ cls := "java/lang/Object", name := "equals", desc := "(Ljava/lang/Object;)Z" } : Jvm.MethodName) ({ cls := "java/lang/Object", name := "equals", desc := "(Ljava/lang/Object;)Z" } : Jvm.MethodName)) ∈ lw_all := lw_g (lw_at lw_m6 102 rfl) rfl
theorem q2445 : (Jvm.Cond.castable "ValleyGuides$Relation" "java/lang/Object") ∈ lw_tbl := lw_at lw_m10 183 rfl
theorem in_X20 : ∀ w ∈ wsX200, w ∈ lw_all := lw_in wsX200 [1191, 1192, 1189] (by decide +kernel) (by decide +kernel)
/-! ValleyGuides$Not -/
set_option maxRecDepth 100000
def RX21 : String := "ValleyGuides$Not"
def TX21 : u_T := fun k => match k with
  | _ => ("ValleyGuides$Not", "a", "LValleyGuides$Part;", true)
def tyX21 : Nat → FieldType := fun k => match k with
  | _ => .object "ValleyGuides$Part"
abbrev wsX210 : List Cond := u_ws RX21 TX21 1
theorem nmX21 : ∀ a, a < 1 → ∀ b, b < 1 → a ≠ b → (TX21 a).2.1 ≠ (TX21 b).2.1 := by decide +kernel
theorem tyX21_ok : ∀ k, k < 1 → parseFieldDescriptor (TX21 k).2.2.1 = some (tyX21 k) := by decide +kernel
abbrev cX21_init : ByteArray := prog_9_method_1_code
def yX21_init : MethodName := ⟨RX21, "<init>", "(LValleyGuides$Part;)V"⟩
def dkwX21_init_0 : List UInt8 := [42, 183, 0, 1, 42, 43, 181, 0, 7, 177]
abbrev dktX21_init_0 : List UInt8 := dkwX21_init_0 ++ []
theorem dksX21_init_0 : cX21_init.data.toList.drop 0 = dktX21_init_0 := by decide +kernel
theorem dX21_init_0 : decode cX21_init 0 = .ok (.aload_n 0, 1) := dk_42 (dk_at dksX21_init_0 0 rfl rfl)
theorem dX21_init_1 : decode cX21_init 1 = .ok (.invokespecial 1, 3) := dk_183 0 1 (dk_at dksX21_init_0 1 rfl rfl)
theorem dX21_init_4 : decode cX21_init 4 = .ok (.aload_n 0, 1) := dk_42 (dk_at dksX21_init_0 4 rfl rfl)
theorem dX21_init_5 : decode cX21_init 5 = .ok (.aload_n 1, 1) := dk_43 (dk_at dksX21_init_0 5 rfl rfl)
theorem dX21_init_6 : decode cX21_init 6 = .ok (.putfield 7, 3) := dk_181 0 7 (dk_at dksX21_init_0 6 rfl rfl)
theorem dX21_init_9 : decode cX21_init 9 = .ok (.return_, 1) := dk_177 (dk_at dksX21_init_0 9 rfl rfl)
abbrev cX21_of : ByteArray := prog_9_method_2_code
def yX21_of : MethodName := ⟨RX21, "of", "([I)I"⟩
def dkwX21_of_0 : List UInt8 := [4, 42, 180, 0, 7, 43, 182, 0, 13, 100, 172]
abbrev dktX21_of_0 : List UInt8 := dkwX21_of_0 ++ []
theorem dksX21_of_0 : cX21_of.data.toList.drop 0 = dktX21_of_0 := by decide +kernel
theorem dX21_of_0 : decode cX21_of 0 = .ok (.iconst 1, 1) := dk_4 (dk_at dksX21_of_0 0 rfl rfl)
theorem dX21_of_1 : decode cX21_of 1 = .ok (.aload_n 0, 1) := dk_42 (dk_at dksX21_of_0 1 rfl rfl)
theorem dX21_of_2 : decode cX21_of 2 = .ok (.getfield 7, 3) := dk_180 0 7 (dk_at dksX21_of_0 2 rfl rfl)
theorem dX21_of_5 : decode cX21_of 5 = .ok (.aload_n 1, 1) := dk_43 (dk_at dksX21_of_0 5 rfl rfl)
theorem dX21_of_6 : decode cX21_of 6 = .ok (.invokevirtual 13, 3) := dk_182 0 13 (dk_at dksX21_of_0 6 rfl rfl)
theorem dX21_of_9 : decode cX21_of 9 = .ok (.isub, 1) := dk_100 (dk_at dksX21_of_0 9 rfl rfl)
theorem dX21_of_10 : decode cX21_of 10 = .ok (.ireturn, 1) := dk_172 (dk_at dksX21_of_0 10 rfl rfl)
theorem q146 : (Jvm.Cond.initialized "ValleyGuides$Not") ∈ lw_all := lw_g (lw_at lw_m1 44 rfl) rfl
theorem q382 : (Jvm.Cond.selects "ValleyGuides$Not" ({ cls := "java/lang/Object", name := "getClass", desc := "()Ljava/lang/Class;" } : Jvm.MethodName) ({ cls := "java/lang/Object", name := "getClass", desc := "()Ljava/lang/Class;" } : Jvm.MethodName)) ∈ lw_all := lw_g (lw_at lw_m2 40 rfl) rfl
theorem q1195 : (Jvm.Cond.instantiable "ValleyGuides$Not" (1 : Nat)) ∈ lw_all := lw_g (lw_at lw_m5 133 rfl) rfl
theorem q1197 : (Jvm.Cond.instanceMethod ({ cls := "ValleyGuides$Not", name := "<init>", desc := "(LValleyGuides$Part;)V" } : Jvm.MethodName)) ∈ lw_all := lw_g (lw_at lw_m5 135 rfl) rfl
theorem q1198 : (Jvm.Cond.code ({ cls := "ValleyGuides$Not", name := "<init>", desc := "(LValleyGuides$Part;)V" } : Jvm.MethodName) prog_9_method_1_code (2 : Nat) (Option.none : Option Jvm.ClassFile.FieldType)) ∈ lw_all := lw_g (lw_at lw_m5 136 rfl) rfl
theorem q1199 : (Jvm.Cond.methodLinkNest "ValleyGuides$Not" (1 : Nat) ({ cls := "ValleyGuides$Part", name := "<init>", desc := "()V" } : Jvm.MethodName) "ValleyGuides") ∈ lw_tbl := lw_at lw_m5 137 rfl
theorem q1200 : (Jvm.Cond.fieldLink "ValleyGuides$Not" (7 : Nat) "ValleyGuides$Not" "a" "LValleyGuides$Part;") ∈ lw_all := lw_g (lw_at lw_m5 138 rfl) rfl
theorem q1201 : (Jvm.Cond.laysFinal "ValleyGuides$Not" "ValleyGuides$Not" "a" "LValleyGuides$Part;") ∈ lw_all := lw_g (lw_at lw_m5 139 rfl) rfl
theorem q1202 : (Jvm.Cond.soleField "ValleyGuides$Not" "a") ∈ lw_all := lw_g (lw_at lw_m5 140 rfl) rfl
theorem q1203 : (Jvm.Cond.superclass "ValleyGuides$Not" "ValleyGuides$Part") ∈ lw_all := lw_g (lw_at lw_m5 141 rfl) rfl
theorem q1269 : (Jvm.Cond.instanceMethod ({ cls := "ValleyGuides$Not", name := "of", desc := "([I)I" } : Jvm.MethodName)) ∈ lw_all := lw_g (lw_at lw_m5 207 rfl) rfl
theorem q1270 : (Jvm.Cond.code ({ cls := "ValleyGuides$Not", name := "of", desc := "([I)I" } : Jvm.MethodName) prog_9_method_2_code (2 : Nat) (Option.some Jvm.ClassFile.FieldType.int)) ∈ lw_all := lw_g (lw_at lw_m5 208 rfl) rfl
theorem q1271 : (Jvm.Cond.methodLink "ValleyGuides$Not" (13 : Nat) ({ cls := "ValleyGuides$Part", name := "of", desc := "([I)I" } : Jvm.MethodName)) ∈ lw_all := lw_g (lw_at lw_m5 209 rfl) rfl
theorem q1306 : (Jvm.Cond.selects "ValleyGuides$Not" ({ cls := "ValleyGuides$Part", name := "of", desc := "([I)I" } : Jvm.MethodName) ({ cls := "ValleyGuides$Not", name := "of", desc := "([I)I" } : Jvm.MethodName)) ∈ lw_all := lw_g (lw_at lw_m6 4 rfl) rfl
theorem q1400 : (Jvm.Cond.selects "ValleyGuides$Not" ({ cls := "java/lang/Object", name := "equals", desc := "(Ljava/lang/Object;)Z" } : Jvm.MethodName) ({ cls := "java/lang/Object", name := "equals", desc := "(Ljava/lang/Object;)Z" } : Jvm.MethodName)) ∈ lw_all := lw_g (lw_at lw_m6 98 rfl) rfl
theorem q2446 : (Jvm.Cond.castable "ValleyGuides$Not" "java/lang/Object") ∈ lw_tbl := lw_at lw_m10 184 rfl
theorem in_X21 : ∀ w ∈ wsX210, w ∈ lw_all := lw_in wsX210 [1201] (by decide +kernel) (by decide +kernel)
/-! ValleyGuides$Both -/
set_option maxRecDepth 100000
def RX22 : String := "ValleyGuides$Both"
def TX22 : u_T := fun k => match k with
  | 0 => ("ValleyGuides$Two", "a", "LValleyGuides$Part;", true)
  | _ => ("ValleyGuides$Two", "b", "LValleyGuides$Part;", true)
def tyX22 : Nat → FieldType := fun k => match k with
  | 0 => .object "ValleyGuides$Part"
  | _ => .object "ValleyGuides$Part"
abbrev wsX220 : List Cond := u_ws RX22 TX22 2
theorem nmX22 : ∀ a, a < 2 → ∀ b, b < 2 → a ≠ b → (TX22 a).2.1 ≠ (TX22 b).2.1 := by decide +kernel
theorem tyX22_ok : ∀ k, k < 2 → parseFieldDescriptor (TX22 k).2.2.1 = some (tyX22 k) := by decide +kernel
abbrev cX22_init : ByteArray := prog_2_method_1_code
def yX22_init : MethodName := ⟨RX22, "<init>", "(LValleyGuides$Part;LValleyGuides$Part;)V"⟩
def dkwX22_init_0 : List UInt8 := [42, 43, 44, 183, 0, 1, 177]
abbrev dktX22_init_0 : List UInt8 := dkwX22_init_0 ++ []
theorem dksX22_init_0 : cX22_init.data.toList.drop 0 = dktX22_init_0 := by decide +kernel
theorem dX22_init_0 : decode cX22_init 0 = .ok (.aload_n 0, 1) := dk_42 (dk_at dksX22_init_0 0 rfl rfl)
theorem dX22_init_1 : decode cX22_init 1 = .ok (.aload_n 1, 1) := dk_43 (dk_at dksX22_init_0 1 rfl rfl)
theorem dX22_init_2 : decode cX22_init 2 = .ok (.aload_n 2, 1) := dk_44 (dk_at dksX22_init_0 2 rfl rfl)
theorem dX22_init_3 : decode cX22_init 3 = .ok (.invokespecial 1, 3) := dk_183 0 1 (dk_at dksX22_init_0 3 rfl rfl)
theorem dX22_init_6 : decode cX22_init 6 = .ok (.return_, 1) := dk_177 (dk_at dksX22_init_0 6 rfl rfl)
abbrev cX22_of : ByteArray := prog_2_method_2_code
def yX22_of : MethodName := ⟨RX22, "of", "([I)I"⟩
def dkwX22_of_0 : List UInt8 := [42, 42, 180, 0, 7, 43, 182, 0, 13, 42, 180, 0, 19, 43, 182, 0, 13, 182, 0, 22, 172]
abbrev dktX22_of_0 : List UInt8 := dkwX22_of_0 ++ []
theorem dksX22_of_0 : cX22_of.data.toList.drop 0 = dktX22_of_0 := by decide +kernel
theorem dX22_of_0 : decode cX22_of 0 = .ok (.aload_n 0, 1) := dk_42 (dk_at dksX22_of_0 0 rfl rfl)
theorem dX22_of_1 : decode cX22_of 1 = .ok (.aload_n 0, 1) := dk_42 (dk_at dksX22_of_0 1 rfl rfl)
theorem dX22_of_2 : decode cX22_of 2 = .ok (.getfield 7, 3) := dk_180 0 7 (dk_at dksX22_of_0 2 rfl rfl)
theorem dX22_of_5 : decode cX22_of 5 = .ok (.aload_n 1, 1) := dk_43 (dk_at dksX22_of_0 5 rfl rfl)
theorem dX22_of_6 : decode cX22_of 6 = .ok (.invokevirtual 13, 3) := dk_182 0 13 (dk_at dksX22_of_0 6 rfl rfl)
theorem dX22_of_9 : decode cX22_of 9 = .ok (.aload_n 0, 1) := dk_42 (dk_at dksX22_of_0 9 rfl rfl)
theorem dX22_of_10 : decode cX22_of 10 = .ok (.getfield 19, 3) := dk_180 0 19 (dk_at dksX22_of_0 10 rfl rfl)
theorem dX22_of_13 : decode cX22_of 13 = .ok (.aload_n 1, 1) := dk_43 (dk_at dksX22_of_0 13 rfl rfl)
theorem dX22_of_14 : decode cX22_of 14 = .ok (.invokevirtual 13, 3) := dk_182 0 13 (dk_at dksX22_of_0 14 rfl rfl)
theorem dX22_of_17 : decode cX22_of 17 = .ok (.invokevirtual 22, 3) := dk_182 0 22 (dk_at dksX22_of_0 17 rfl rfl)
theorem dX22_of_20 : decode cX22_of 20 = .ok (.ireturn, 1) := dk_172 (dk_at dksX22_of_0 20 rfl rfl)
abbrev cX22_of_2 : ByteArray := prog_2_method_3_code
def yX22_of_2 : MethodName := ⟨RX22, "of", "(II)I"⟩
def dkwX22_of_2_0 : List UInt8 := [27, 28, 104, 172]
abbrev dktX22_of_2_0 : List UInt8 := dkwX22_of_2_0 ++ []
theorem dksX22_of_2_0 : cX22_of_2.data.toList.drop 0 = dktX22_of_2_0 := by decide +kernel
theorem dX22_of_2_0 : decode cX22_of_2 0 = .ok (.iload_n 1, 1) := dk_27 (dk_at dksX22_of_2_0 0 rfl rfl)
theorem dX22_of_2_1 : decode cX22_of_2 1 = .ok (.iload_n 2, 1) := dk_28 (dk_at dksX22_of_2_0 1 rfl rfl)
theorem dX22_of_2_2 : decode cX22_of_2 2 = .ok (.imul, 1) := dk_104 (dk_at dksX22_of_2_0 2 rfl rfl)
theorem dX22_of_2_3 : decode cX22_of_2 3 = .ok (.ireturn, 1) := dk_172 (dk_at dksX22_of_2_0 3 rfl rfl)
theorem q147 : (Jvm.Cond.initialized "ValleyGuides$Both") ∈ lw_all := lw_g (lw_at lw_m1 45 rfl) rfl
theorem q375 : (Jvm.Cond.selects "ValleyGuides$Both" ({ cls := "java/lang/Object", name := "getClass", desc := "()Ljava/lang/Class;" } : Jvm.MethodName) ({ cls := "java/lang/Object", name := "getClass", desc := "()Ljava/lang/Class;" } : Jvm.MethodName)) ∈ lw_all := lw_g (lw_at lw_m2 33 rfl) rfl
theorem q1166 : (Jvm.Cond.fieldLink "ValleyGuides$Both" (7 : Nat) "ValleyGuides$Both" "a" "LValleyGuides$Part;") ∈ lw_all := lw_g (lw_at lw_m5 104 rfl) rfl
theorem q1167 : (Jvm.Cond.sameField "ValleyGuides$Both" "ValleyGuides$Two" "a" "LValleyGuides$Part;") ∈ lw_all := lw_g (lw_at lw_m5 105 rfl) rfl
theorem q1171 : (Jvm.Cond.fieldLink "ValleyGuides$Both" (19 : Nat) "ValleyGuides$Both" "b" "LValleyGuides$Part;") ∈ lw_all := lw_g (lw_at lw_m5 109 rfl) rfl
theorem q1172 : (Jvm.Cond.sameField "ValleyGuides$Both" "ValleyGuides$Two" "b" "LValleyGuides$Part;") ∈ lw_all := lw_g (lw_at lw_m5 110 rfl) rfl
theorem q1205 : (Jvm.Cond.instantiable "ValleyGuides$Both" (2 : Nat)) ∈ lw_all := lw_g (lw_at lw_m5 143 rfl) rfl
theorem q1207 : (Jvm.Cond.instanceMethod ({ cls := "ValleyGuides$Both", name := "<init>", desc := "(LValleyGuides$Part;LValleyGuides$Part;)V" } : Jvm.MethodName)) ∈ lw_all := lw_g (lw_at lw_m5 145 rfl) rfl
theorem q1208 : (Jvm.Cond.code ({ cls := "ValleyGuides$Both", name := "<init>", desc := "(LValleyGuides$Part;LValleyGuides$Part;)V" } : Jvm.MethodName) prog_2_method_1_code (3 : Nat) (Option.none : Option Jvm.ClassFile.FieldType)) ∈ lw_all := lw_g (lw_at lw_m5 146 rfl) rfl
theorem q1209 : (Jvm.Cond.methodLink "ValleyGuides$Both" (1 : Nat) ({ cls := "ValleyGuides$Two", name := "<init>", desc := "(LValleyGuides$Part;LValleyGuides$Part;)V" } : Jvm.MethodName)) ∈ lw_all := lw_g (lw_at lw_m5 147 rfl) rfl
theorem q1210 : (Jvm.Cond.laysFinal "ValleyGuides$Both" "ValleyGuides$Two" "a" "LValleyGuides$Part;") ∈ lw_all := lw_g (lw_at lw_m5 148 rfl) rfl
theorem q1211 : (Jvm.Cond.laysFinal "ValleyGuides$Both" "ValleyGuides$Two" "b" "LValleyGuides$Part;") ∈ lw_all := lw_g (lw_at lw_m5 149 rfl) rfl
theorem q1212 : (Jvm.Cond.superclass "ValleyGuides$Both" "ValleyGuides$Two") ∈ lw_all := lw_g (lw_at lw_m5 150 rfl) rfl
theorem q1265 : (Jvm.Cond.selects "ValleyGuides$Both" ({ cls := "ValleyGuides$Part", name := "of", desc := "([I)I" } : Jvm.MethodName) ({ cls := "ValleyGuides$Both", name := "of", desc := "([I)I" } : Jvm.MethodName)) ∈ lw_all := lw_g (lw_at lw_m5 203 rfl) rfl
theorem q1266 : (Jvm.Cond.instanceMethod ({ cls := "ValleyGuides$Both", name := "of", desc := "([I)I" } : Jvm.MethodName)) ∈ lw_all := lw_g (lw_at lw_m5 204 rfl) rfl
theorem q1267 : (Jvm.Cond.code ({ cls := "ValleyGuides$Both", name := "of", desc := "([I)I" } : Jvm.MethodName) prog_2_method_2_code (2 : Nat) (Option.some Jvm.ClassFile.FieldType.int)) ∈ lw_all := lw_g (lw_at lw_m5 205 rfl) rfl
theorem q1268 : (Jvm.Cond.methodLink "ValleyGuides$Both" (13 : Nat) ({ cls := "ValleyGuides$Part", name := "of", desc := "([I)I" } : Jvm.MethodName)) ∈ lw_all := lw_g (lw_at lw_m5 206 rfl) rfl
theorem q1296 : (Jvm.Cond.methodLink "ValleyGuides$Both" (22 : Nat) ({ cls := "ValleyGuides$Both", name := "of", desc := "(II)I" } : Jvm.MethodName)) ∈ lw_all := lw_g (lw_at lw_m5 234 rfl) rfl
theorem q1297 : (Jvm.Cond.instanceMethod ({ cls := "ValleyGuides$Both", name := "of", desc := "(II)I" } : Jvm.MethodName)) ∈ lw_all := lw_g (lw_at lw_m5 235 rfl) rfl
theorem q1298 : (Jvm.Cond.selects "ValleyGuides$Both" ({ cls := "ValleyGuides$Both", name := "of", desc := "(II)I" } : Jvm.MethodName) ({ cls := "ValleyGuides$Both", name := "of", desc := "(II)I" } : Jvm.MethodName)) ∈ lw_all := lw_g (lw_at lw_m5 236 rfl) rfl
theorem q1299 : (Jvm.Cond.sameMethod "ValleyGuides$Both" "ValleyGuides$Both" "of" "(II)I") ∈ lw_all := lw_g (lw_at lw_m5 237 rfl) rfl
theorem q1304 : (Jvm.Cond.code ({ cls := "ValleyGuides$Both", name := "of", desc := "(II)I" } : Jvm.MethodName) prog_2_method_3_code (3 : Nat) (Option.some Jvm.ClassFile.FieldType.int)) ∈ lw_all := lw_g (lw_at lw_m6 2 rfl) rfl
theorem q1393 : (Jvm.Cond.selects "ValleyGuides$Both" ({ cls := "java/lang/Object", name := "equals", desc := "(Ljava/lang/Object;)Z" } : Jvm.MethodName) ({ cls := "java/lang/Object", name := "equals", desc := "(Ljava/lang/Object;)Z" } : Jvm.MethodName)) ∈ lw_all := lw_g (lw_at lw_m6 91 rfl) rfl
theorem q2447 : (Jvm.Cond.castable "ValleyGuides$Both" "java/lang/Object") ∈ lw_tbl := lw_at lw_m10 185 rfl
theorem in_X22 : ∀ w ∈ wsX220, w ∈ lw_all := lw_in wsX220 [1210, 1211] (by decide +kernel) (by decide +kernel)
/-! ValleyGuides$Either -/
set_option maxRecDepth 100000
def RX23 : String := "ValleyGuides$Either"
def TX23 : u_T := fun k => match k with
  | 0 => ("ValleyGuides$Two", "a", "LValleyGuides$Part;", true)
  | _ => ("ValleyGuides$Two", "b", "LValleyGuides$Part;", true)
def tyX23 : Nat → FieldType := fun k => match k with
  | 0 => .object "ValleyGuides$Part"
  | _ => .object "ValleyGuides$Part"
abbrev wsX230 : List Cond := u_ws RX23 TX23 2
theorem nmX23 : ∀ a, a < 2 → ∀ b, b < 2 → a ≠ b → (TX23 a).2.1 ≠ (TX23 b).2.1 := by decide +kernel
theorem tyX23_ok : ∀ k, k < 2 → parseFieldDescriptor (TX23 k).2.2.1 = some (tyX23 k) := by decide +kernel
abbrev cX23_init : ByteArray := prog_3_method_1_code
def yX23_init : MethodName := ⟨RX23, "<init>", "(LValleyGuides$Part;LValleyGuides$Part;)V"⟩
def dkwX23_init_0 : List UInt8 := [42, 43, 44, 183, 0, 1, 177]
abbrev dktX23_init_0 : List UInt8 := dkwX23_init_0 ++ []
theorem dksX23_init_0 : cX23_init.data.toList.drop 0 = dktX23_init_0 := by decide +kernel
theorem dX23_init_0 : decode cX23_init 0 = .ok (.aload_n 0, 1) := dk_42 (dk_at dksX23_init_0 0 rfl rfl)
theorem dX23_init_1 : decode cX23_init 1 = .ok (.aload_n 1, 1) := dk_43 (dk_at dksX23_init_0 1 rfl rfl)
theorem dX23_init_2 : decode cX23_init 2 = .ok (.aload_n 2, 1) := dk_44 (dk_at dksX23_init_0 2 rfl rfl)
theorem dX23_init_3 : decode cX23_init 3 = .ok (.invokespecial 1, 3) := dk_183 0 1 (dk_at dksX23_init_0 3 rfl rfl)
theorem dX23_init_6 : decode cX23_init 6 = .ok (.return_, 1) := dk_177 (dk_at dksX23_init_0 6 rfl rfl)
abbrev cX23_of : ByteArray := prog_3_method_2_code
def yX23_of : MethodName := ⟨RX23, "of", "(II)I"⟩
def dkwX23_of_0 : List UInt8 := [27, 28, 96, 42, 27, 28, 183, 0, 7, 100, 172]
abbrev dktX23_of_0 : List UInt8 := dkwX23_of_0 ++ []
theorem dksX23_of_0 : cX23_of.data.toList.drop 0 = dktX23_of_0 := by decide +kernel
theorem dX23_of_0 : decode cX23_of 0 = .ok (.iload_n 1, 1) := dk_27 (dk_at dksX23_of_0 0 rfl rfl)
theorem dX23_of_1 : decode cX23_of 1 = .ok (.iload_n 2, 1) := dk_28 (dk_at dksX23_of_0 1 rfl rfl)
theorem dX23_of_2 : decode cX23_of 2 = .ok (.iadd, 1) := dk_96 (dk_at dksX23_of_0 2 rfl rfl)
theorem dX23_of_3 : decode cX23_of 3 = .ok (.aload_n 0, 1) := dk_42 (dk_at dksX23_of_0 3 rfl rfl)
theorem dX23_of_4 : decode cX23_of 4 = .ok (.iload_n 1, 1) := dk_27 (dk_at dksX23_of_0 4 rfl rfl)
theorem dX23_of_5 : decode cX23_of 5 = .ok (.iload_n 2, 1) := dk_28 (dk_at dksX23_of_0 5 rfl rfl)
theorem dX23_of_6 : decode cX23_of 6 = .ok (.invokespecial 7, 3) := dk_183 0 7 (dk_at dksX23_of_0 6 rfl rfl)
theorem dX23_of_9 : decode cX23_of 9 = .ok (.isub, 1) := dk_100 (dk_at dksX23_of_0 9 rfl rfl)
theorem dX23_of_10 : decode cX23_of 10 = .ok (.ireturn, 1) := dk_172 (dk_at dksX23_of_0 10 rfl rfl)
theorem q148 : (Jvm.Cond.initialized "ValleyGuides$Either") ∈ lw_all := lw_g (lw_at lw_m1 46 rfl) rfl
theorem q376 : (Jvm.Cond.selects "ValleyGuides$Either" ({ cls := "java/lang/Object", name := "getClass", desc := "()Ljava/lang/Class;" } : Jvm.MethodName) ({ cls := "java/lang/Object", name := "getClass", desc := "()Ljava/lang/Class;" } : Jvm.MethodName)) ∈ lw_all := lw_g (lw_at lw_m2 34 rfl) rfl
theorem q1214 : (Jvm.Cond.instantiable "ValleyGuides$Either" (2 : Nat)) ∈ lw_all := lw_g (lw_at lw_m5 152 rfl) rfl
theorem q1216 : (Jvm.Cond.instanceMethod ({ cls := "ValleyGuides$Either", name := "<init>", desc := "(LValleyGuides$Part;LValleyGuides$Part;)V" } : Jvm.MethodName)) ∈ lw_all := lw_g (lw_at lw_m5 154 rfl) rfl
theorem q1217 : (Jvm.Cond.code ({ cls := "ValleyGuides$Either", name := "<init>", desc := "(LValleyGuides$Part;LValleyGuides$Part;)V" } : Jvm.MethodName) prog_3_method_1_code (3 : Nat) (Option.none : Option Jvm.ClassFile.FieldType)) ∈ lw_all := lw_g (lw_at lw_m5 155 rfl) rfl
theorem q1218 : (Jvm.Cond.methodLink "ValleyGuides$Either" (1 : Nat) ({ cls := "ValleyGuides$Both", name := "<init>", desc := "(LValleyGuides$Part;LValleyGuides$Part;)V" } : Jvm.MethodName)) ∈ lw_all := lw_g (lw_at lw_m5 156 rfl) rfl
theorem q1219 : (Jvm.Cond.laysFinal "ValleyGuides$Either" "ValleyGuides$Two" "a" "LValleyGuides$Part;") ∈ lw_all := lw_g (lw_at lw_m5 157 rfl) rfl
theorem q1220 : (Jvm.Cond.laysFinal "ValleyGuides$Either" "ValleyGuides$Two" "b" "LValleyGuides$Part;") ∈ lw_all := lw_g (lw_at lw_m5 158 rfl) rfl
theorem q1221 : (Jvm.Cond.superclass "ValleyGuides$Either" "ValleyGuides$Both") ∈ lw_all := lw_g (lw_at lw_m5 159 rfl) rfl
theorem q1300 : (Jvm.Cond.selects "ValleyGuides$Either" ({ cls := "ValleyGuides$Both", name := "of", desc := "(II)I" } : Jvm.MethodName) ({ cls := "ValleyGuides$Either", name := "of", desc := "(II)I" } : Jvm.MethodName)) ∈ lw_all := lw_g (lw_at lw_m5 238 rfl) rfl
theorem q1301 : (Jvm.Cond.instanceMethod ({ cls := "ValleyGuides$Either", name := "of", desc := "(II)I" } : Jvm.MethodName)) ∈ lw_all := lw_g (lw_at lw_m5 239 rfl) rfl
theorem q1302 : (Jvm.Cond.code ({ cls := "ValleyGuides$Either", name := "of", desc := "(II)I" } : Jvm.MethodName) prog_3_method_2_code (3 : Nat) (Option.some Jvm.ClassFile.FieldType.int)) ∈ lw_all := lw_g (lw_at lw_m6 0 rfl) rfl
theorem q1303 : (Jvm.Cond.methodLink "ValleyGuides$Either" (7 : Nat) ({ cls := "ValleyGuides$Both", name := "of", desc := "(II)I" } : Jvm.MethodName)) ∈ lw_all := lw_g (lw_at lw_m6 1 rfl) rfl
theorem q1305 : (Jvm.Cond.selects "ValleyGuides$Either" ({ cls := "ValleyGuides$Part", name := "of", desc := "([I)I" } : Jvm.MethodName) ({ cls := "ValleyGuides$Both", name := "of", desc := "([I)I" } : Jvm.MethodName)) ∈ lw_all := lw_g (lw_at lw_m6 3 rfl) rfl
theorem q1394 : (Jvm.Cond.selects "ValleyGuides$Either" ({ cls := "java/lang/Object", name := "equals", desc := "(Ljava/lang/Object;)Z" } : Jvm.MethodName) ({ cls := "java/lang/Object", name := "equals", desc := "(Ljava/lang/Object;)Z" } : Jvm.MethodName)) ∈ lw_all := lw_g (lw_at lw_m6 92 rfl) rfl
theorem q2448 : (Jvm.Cond.castable "ValleyGuides$Either" "java/lang/Object") ∈ lw_tbl := lw_at lw_m10 186 rfl
theorem in_X23 : ∀ w ∈ wsX230, w ∈ lw_all := lw_in wsX230 [1219, 1220] (by decide +kernel) (by decide +kernel)
/-! ValleyGuides$Rope -/
set_option maxRecDepth 100000
def RX24 : String := "ValleyGuides$Rope"
def TX24 : u_T := fun k => match k with
  | 0 => ("ValleyGuides$Rope", "route", "LValleyGuides$Route;", true)
  | 1 => ("ValleyGuides$Rope", "strength", "I", true)
  | 2 => ("ValleyGuides$Rope", "start", "I", true)
  | 3 => ("ValleyGuides$Rope", "people", "I", true)
  | 4 => ("ValleyGuides$Rope", "next", "I", false)
  | 5 => ("ValleyGuides$Rope", "place", "I", false)
  | 6 => ("ValleyGuides$Rope", "came", "I", false)
  | 7 => ("ValleyGuides$Rope", "on", "LValleyGuides$Step;", false)
  | 8 => ("ValleyGuides$Rope", "until", "I", false)
  | 9 => ("ValleyGuides$Rope", "done", "I", false)
  | 10 => ("ValleyGuides$Rope", "hasTurned", "Z", false)
  | 11 => ("ValleyGuides$Rope", "waited", "I", false)
  | 12 => ("ValleyGuides$Rope", "bedded", "I", false)
  | _ => ("ValleyGuides$Rope", "where", "[I", true)
def tyX24 : Nat → FieldType := fun k => match k with
  | 0 => .object "ValleyGuides$Route"
  | 1 => .int
  | 2 => .int
  | 3 => .int
  | 4 => .int
  | 5 => .int
  | 6 => .int
  | 7 => .object "ValleyGuides$Step"
  | 8 => .int
  | 9 => .int
  | 10 => .boolean
  | 11 => .int
  | 12 => .int
  | _ => .array .int
abbrev wsX240 : List Cond := u_ws RX24 TX24 14
set_option maxRecDepth 100000 in
theorem nmX24 : ∀ a, a < 14 → ∀ b, b < 14 → a ≠ b → (TX24 a).2.1 ≠ (TX24 b).2.1 := by decide +kernel
set_option maxRecDepth 100000 in
theorem tyX24_ok : ∀ k, k < 14 → parseFieldDescriptor (TX24 k).2.2.1 = some (tyX24 k) := by decide +kernel
abbrev cX24_init : ByteArray := prog_17_method_1_code
def yX24_init : MethodName := ⟨RX24, "<init>", "(LValleyGuides$Route;III)V"⟩
def dkwX24_init_1 : List UInt8 := [181, 0, 23, 42, 21, 4, 181, 0, 26, 177]
abbrev dktX24_init_1 : List UInt8 := dkwX24_init_1 ++ []
def dkwX24_init_0 : List UInt8 := [42, 183, 0, 3, 42, 16, 96, 188, 10, 181, 0, 9, 42, 43, 181, 0, 15, 42, 28, 181, 0, 19, 42, 29]
abbrev dktX24_init_0 : List UInt8 := dkwX24_init_0 ++ dktX24_init_1
theorem dksX24_init_0 : cX24_init.data.toList.drop 0 = dktX24_init_0 := by decide +kernel
theorem dksX24_init_1 : cX24_init.data.toList.drop 24 = dktX24_init_1 := dk_seg dksX24_init_0 24 rfl rfl
theorem dX24_init_0 : decode cX24_init 0 = .ok (.aload_n 0, 1) := dk_42 (dk_at dksX24_init_0 0 rfl rfl)
theorem dX24_init_1 : decode cX24_init 1 = .ok (.invokespecial 3, 3) := dk_183 0 3 (dk_at dksX24_init_0 1 rfl rfl)
theorem dX24_init_4 : decode cX24_init 4 = .ok (.aload_n 0, 1) := dk_42 (dk_at dksX24_init_0 4 rfl rfl)
theorem dX24_init_5 : decode cX24_init 5 = .ok (.bipush 96, 2) := dk_16 96 (dk_at dksX24_init_0 5 rfl rfl)
theorem dX24_init_7 : decode cX24_init 7 = .ok (.newarray .int, 2) := dk_188_10 (dk_at dksX24_init_0 7 rfl rfl)
theorem dX24_init_9 : decode cX24_init 9 = .ok (.putfield 9, 3) := dk_181 0 9 (dk_at dksX24_init_0 9 rfl rfl)
theorem dX24_init_12 : decode cX24_init 12 = .ok (.aload_n 0, 1) := dk_42 (dk_at dksX24_init_0 12 rfl rfl)
theorem dX24_init_13 : decode cX24_init 13 = .ok (.aload_n 1, 1) := dk_43 (dk_at dksX24_init_0 13 rfl rfl)
theorem dX24_init_14 : decode cX24_init 14 = .ok (.putfield 15, 3) := dk_181 0 15 (dk_at dksX24_init_0 14 rfl rfl)
theorem dX24_init_17 : decode cX24_init 17 = .ok (.aload_n 0, 1) := dk_42 (dk_at dksX24_init_0 17 rfl rfl)
theorem dX24_init_18 : decode cX24_init 18 = .ok (.iload_n 2, 1) := dk_28 (dk_at dksX24_init_0 18 rfl rfl)
theorem dX24_init_19 : decode cX24_init 19 = .ok (.putfield 19, 3) := dk_181 0 19 (dk_at dksX24_init_0 19 rfl rfl)
theorem dX24_init_22 : decode cX24_init 22 = .ok (.aload_n 0, 1) := dk_42 (dk_at dksX24_init_0 22 rfl rfl)
theorem dX24_init_23 : decode cX24_init 23 = .ok (.iload_n 3, 1) := dk_29 (dk_at dksX24_init_0 23 rfl rfl)
theorem dX24_init_24 : decode cX24_init 24 = .ok (.putfield 23, 3) := dk_181 0 23 (dk_at dksX24_init_1 0 rfl rfl)
theorem dX24_init_27 : decode cX24_init 27 = .ok (.aload_n 0, 1) := dk_42 (dk_at dksX24_init_1 3 rfl rfl)
theorem dX24_init_28 : decode cX24_init 28 = .ok (.iload 4, 2) := dk_21 4 (dk_at dksX24_init_1 4 rfl rfl)
theorem dX24_init_30 : decode cX24_init 30 = .ok (.putfield 26, 3) := dk_181 0 26 (dk_at dksX24_init_1 6 rfl rfl)
theorem dX24_init_33 : decode cX24_init 33 = .ok (.return_, 1) := dk_177 (dk_at dksX24_init_1 9 rfl rfl)
abbrev cX24_begin : ByteArray := prog_17_method_2_code
def yX24_begin : MethodName := ⟨RX24, "begin", "()V"⟩
def dkwX24_begin_2 : List UInt8 := [177]
abbrev dktX24_begin_2 : List UInt8 := dkwX24_begin_2 ++ []
def dkwX24_begin_1 : List UInt8 := [181, 0, 44, 42, 16, 252, 181, 0, 48, 42, 3, 181, 0, 51, 42, 3, 181, 0, 55, 42, 3, 181, 0, 58]
abbrev dktX24_begin_1 : List UInt8 := dkwX24_begin_1 ++ dktX24_begin_2
def dkwX24_begin_0 : List UInt8 := [42, 3, 181, 0, 29, 42, 42, 180, 0, 15, 182, 0, 32, 181, 0, 38, 42, 16, 252, 181, 0, 41, 42, 1]
abbrev dktX24_begin_0 : List UInt8 := dkwX24_begin_0 ++ dktX24_begin_1
theorem dksX24_begin_0 : cX24_begin.data.toList.drop 0 = dktX24_begin_0 := by decide +kernel
theorem dksX24_begin_1 : cX24_begin.data.toList.drop 24 = dktX24_begin_1 := dk_seg dksX24_begin_0 24 rfl rfl
theorem dksX24_begin_2 : cX24_begin.data.toList.drop 48 = dktX24_begin_2 := dk_seg dksX24_begin_1 24 rfl rfl
theorem dX24_begin_0 : decode cX24_begin 0 = .ok (.aload_n 0, 1) := dk_42 (dk_at dksX24_begin_0 0 rfl rfl)
theorem dX24_begin_1 : decode cX24_begin 1 = .ok (.iconst 0, 1) := dk_3 (dk_at dksX24_begin_0 1 rfl rfl)
theorem dX24_begin_2 : decode cX24_begin 2 = .ok (.putfield 29, 3) := dk_181 0 29 (dk_at dksX24_begin_0 2 rfl rfl)
theorem dX24_begin_5 : decode cX24_begin 5 = .ok (.aload_n 0, 1) := dk_42 (dk_at dksX24_begin_0 5 rfl rfl)
theorem dX24_begin_6 : decode cX24_begin 6 = .ok (.aload_n 0, 1) := dk_42 (dk_at dksX24_begin_0 6 rfl rfl)
theorem dX24_begin_7 : decode cX24_begin 7 = .ok (.getfield 15, 3) := dk_180 0 15 (dk_at dksX24_begin_0 7 rfl rfl)
theorem dX24_begin_10 : decode cX24_begin 10 = .ok (.invokevirtual 32, 3) := dk_182 0 32 (dk_at dksX24_begin_0 10 rfl rfl)
theorem dX24_begin_13 : decode cX24_begin 13 = .ok (.putfield 38, 3) := dk_181 0 38 (dk_at dksX24_begin_0 13 rfl rfl)
theorem dX24_begin_16 : decode cX24_begin 16 = .ok (.aload_n 0, 1) := dk_42 (dk_at dksX24_begin_0 16 rfl rfl)
theorem dX24_begin_17 : decode cX24_begin 17 = .ok (.bipush (-4), 2) := dk_16 252 (dk_at dksX24_begin_0 17 rfl rfl)
theorem dX24_begin_19 : decode cX24_begin 19 = .ok (.putfield 41, 3) := dk_181 0 41 (dk_at dksX24_begin_0 19 rfl rfl)
theorem dX24_begin_22 : decode cX24_begin 22 = .ok (.aload_n 0, 1) := dk_42 (dk_at dksX24_begin_0 22 rfl rfl)
theorem dX24_begin_23 : decode cX24_begin 23 = .ok (.aconst_null, 1) := dk_1 (dk_at dksX24_begin_0 23 rfl rfl)
theorem dX24_begin_24 : decode cX24_begin 24 = .ok (.putfield 44, 3) := dk_181 0 44 (dk_at dksX24_begin_1 0 rfl rfl)
theorem dX24_begin_27 : decode cX24_begin 27 = .ok (.aload_n 0, 1) := dk_42 (dk_at dksX24_begin_1 3 rfl rfl)
theorem dX24_begin_28 : decode cX24_begin 28 = .ok (.bipush (-4), 2) := dk_16 252 (dk_at dksX24_begin_1 4 rfl rfl)
theorem dX24_begin_30 : decode cX24_begin 30 = .ok (.putfield 48, 3) := dk_181 0 48 (dk_at dksX24_begin_1 6 rfl rfl)
theorem dX24_begin_33 : decode cX24_begin 33 = .ok (.aload_n 0, 1) := dk_42 (dk_at dksX24_begin_1 9 rfl rfl)
theorem dX24_begin_34 : decode cX24_begin 34 = .ok (.iconst 0, 1) := dk_3 (dk_at dksX24_begin_1 10 rfl rfl)
theorem dX24_begin_35 : decode cX24_begin 35 = .ok (.putfield 51, 3) := dk_181 0 51 (dk_at dksX24_begin_1 11 rfl rfl)
theorem dX24_begin_38 : decode cX24_begin 38 = .ok (.aload_n 0, 1) := dk_42 (dk_at dksX24_begin_1 14 rfl rfl)
theorem dX24_begin_39 : decode cX24_begin 39 = .ok (.iconst 0, 1) := dk_3 (dk_at dksX24_begin_1 15 rfl rfl)
theorem dX24_begin_40 : decode cX24_begin 40 = .ok (.putfield 55, 3) := dk_181 0 55 (dk_at dksX24_begin_1 16 rfl rfl)
theorem dX24_begin_43 : decode cX24_begin 43 = .ok (.aload_n 0, 1) := dk_42 (dk_at dksX24_begin_1 19 rfl rfl)
theorem dX24_begin_44 : decode cX24_begin 44 = .ok (.iconst 0, 1) := dk_3 (dk_at dksX24_begin_1 20 rfl rfl)
theorem dX24_begin_45 : decode cX24_begin 45 = .ok (.putfield 58, 3) := dk_181 0 58 (dk_at dksX24_begin_1 21 rfl rfl)
theorem dX24_begin_48 : decode cX24_begin 48 = .ok (.return_, 1) := dk_177 (dk_at dksX24_begin_2 0 rfl rfl)
abbrev cX24_isWaiting : ByteArray := prog_17_method_3_code
def yX24_isWaiting : MethodName := ⟨RX24, "isWaiting", "()Z"⟩
def dkwX24_isWaiting_1 : List UInt8 := [160, 0, 7, 4, 167, 0, 4, 3, 172]
abbrev dktX24_isWaiting_1 : List UInt8 := dkwX24_isWaiting_1 ++ []
def dkwX24_isWaiting_0 : List UInt8 := [42, 180, 0, 41, 16, 252, 159, 0, 23, 42, 180, 0, 44, 199, 0, 16, 42, 180, 0, 48, 16, 252]
abbrev dktX24_isWaiting_0 : List UInt8 := dkwX24_isWaiting_0 ++ dktX24_isWaiting_1
theorem dksX24_isWaiting_0 : cX24_isWaiting.data.toList.drop 0 = dktX24_isWaiting_0 := by decide +kernel
theorem dksX24_isWaiting_1 : cX24_isWaiting.data.toList.drop 22 = dktX24_isWaiting_1 := dk_seg dksX24_isWaiting_0 22 rfl rfl
theorem dX24_isWaiting_0 : decode cX24_isWaiting 0 = .ok (.aload_n 0, 1) := dk_42 (dk_at dksX24_isWaiting_0 0 rfl rfl)
theorem dX24_isWaiting_1 : decode cX24_isWaiting 1 = .ok (.getfield 41, 3) := dk_180 0 41 (dk_at dksX24_isWaiting_0 1 rfl rfl)
theorem dX24_isWaiting_4 : decode cX24_isWaiting 4 = .ok (.bipush (-4), 2) := dk_16 252 (dk_at dksX24_isWaiting_0 4 rfl rfl)
theorem dX24_isWaiting_6 : decode cX24_isWaiting 6 = .ok (.if_icmp .eq 23, 3) := dk_159 0 23 (dk_at dksX24_isWaiting_0 6 rfl rfl)
theorem dX24_isWaiting_9 : decode cX24_isWaiting 9 = .ok (.aload_n 0, 1) := dk_42 (dk_at dksX24_isWaiting_0 9 rfl rfl)
theorem dX24_isWaiting_10 : decode cX24_isWaiting 10 = .ok (.getfield 44, 3) := dk_180 0 44 (dk_at dksX24_isWaiting_0 10 rfl rfl)
theorem dX24_isWaiting_13 : decode cX24_isWaiting 13 = .ok (.ifnonnull 16, 3) := dk_199 0 16 (dk_at dksX24_isWaiting_0 13 rfl rfl)
theorem dX24_isWaiting_16 : decode cX24_isWaiting 16 = .ok (.aload_n 0, 1) := dk_42 (dk_at dksX24_isWaiting_0 16 rfl rfl)
theorem dX24_isWaiting_17 : decode cX24_isWaiting 17 = .ok (.getfield 48, 3) := dk_180 0 48 (dk_at dksX24_isWaiting_0 17 rfl rfl)
theorem dX24_isWaiting_20 : decode cX24_isWaiting 20 = .ok (.bipush (-4), 2) := dk_16 252 (dk_at dksX24_isWaiting_0 20 rfl rfl)
theorem dX24_isWaiting_22 : decode cX24_isWaiting 22 = .ok (.if_icmp .ne 7, 3) := dk_160 0 7 (dk_at dksX24_isWaiting_1 0 rfl rfl)
theorem dX24_isWaiting_25 : decode cX24_isWaiting 25 = .ok (.iconst 1, 1) := dk_4 (dk_at dksX24_isWaiting_1 3 rfl rfl)
theorem dX24_isWaiting_26 : decode cX24_isWaiting 26 = .ok (.goto 4, 3) := dk_167 0 4 (dk_at dksX24_isWaiting_1 4 rfl rfl)
theorem dX24_isWaiting_29 : decode cX24_isWaiting 29 = .ok (.iconst 0, 1) := dk_3 (dk_at dksX24_isWaiting_1 7 rfl rfl)
theorem dX24_isWaiting_30 : decode cX24_isWaiting 30 = .ok (.ireturn, 1) := dk_172 (dk_at dksX24_isWaiting_1 8 rfl rfl)
theorem q150 : (Jvm.Cond.initialized "ValleyGuides$Rope") ∈ lw_all := lw_g (lw_at lw_m1 48 rfl) rfl
theorem q389 : (Jvm.Cond.selects "ValleyGuides$Rope" ({ cls := "java/lang/Object", name := "getClass", desc := "()Ljava/lang/Class;" } : Jvm.MethodName) ({ cls := "java/lang/Object", name := "getClass", desc := "()Ljava/lang/Class;" } : Jvm.MethodName)) ∈ lw_all := lw_g (lw_at lw_m2 47 rfl) rfl
theorem q1407 : (Jvm.Cond.selects "ValleyGuides$Rope" ({ cls := "java/lang/Object", name := "equals", desc := "(Ljava/lang/Object;)Z" } : Jvm.MethodName) ({ cls := "java/lang/Object", name := "equals", desc := "(Ljava/lang/Object;)Z" } : Jvm.MethodName)) ∈ lw_all := lw_g (lw_at lw_m6 105 rfl) rfl
theorem q1508 : (Jvm.Cond.instantiable "ValleyGuides$Rope" (14 : Nat)) ∈ lw_all := lw_g (lw_at lw_m6 206 rfl) rfl
theorem q1510 : (Jvm.Cond.instanceMethod ({ cls := "ValleyGuides$Rope", name := "<init>", desc := "(LValleyGuides$Route;III)V" } : Jvm.MethodName)) ∈ lw_all := lw_g (lw_at lw_m6 208 rfl) rfl
theorem q1511 : (Jvm.Cond.code ({ cls := "ValleyGuides$Rope", name := "<init>", desc := "(LValleyGuides$Route;III)V" } : Jvm.MethodName) prog_17_method_1_code (5 : Nat) (Option.none : Option Jvm.ClassFile.FieldType)) ∈ lw_all := lw_g (lw_at lw_m6 209 rfl) rfl
theorem q1512 : (Jvm.Cond.methodLink "ValleyGuides$Rope" (3 : Nat) ({ cls := "java/lang/Object", name := "<init>", desc := "()V" } : Jvm.MethodName)) ∈ lw_all := lw_g (lw_at lw_m6 210 rfl) rfl
theorem q1513 : (Jvm.Cond.fieldLink "ValleyGuides$Rope" (15 : Nat) "ValleyGuides$Rope" "route" "LValleyGuides$Route;") ∈ lw_all := lw_g (lw_at lw_m6 211 rfl) rfl
theorem q1515 : (Jvm.Cond.fieldLink "ValleyGuides$Rope" (19 : Nat) "ValleyGuides$Rope" "strength" "I") ∈ lw_all := lw_g (lw_at lw_m6 213 rfl) rfl
theorem q1517 : (Jvm.Cond.fieldLink "ValleyGuides$Rope" (23 : Nat) "ValleyGuides$Rope" "start" "I") ∈ lw_all := lw_g (lw_at lw_m6 215 rfl) rfl
theorem q1519 : (Jvm.Cond.fieldLink "ValleyGuides$Rope" (26 : Nat) "ValleyGuides$Rope" "people" "I") ∈ lw_all := lw_g (lw_at lw_m6 217 rfl) rfl
theorem q1521 : (Jvm.Cond.fieldLink "ValleyGuides$Rope" (29 : Nat) "ValleyGuides$Rope" "next" "I") ∈ lw_all := lw_g (lw_at lw_m6 219 rfl) rfl
theorem q1523 : (Jvm.Cond.fieldLink "ValleyGuides$Rope" (38 : Nat) "ValleyGuides$Rope" "place" "I") ∈ lw_all := lw_g (lw_at lw_m6 221 rfl) rfl
theorem q1525 : (Jvm.Cond.fieldLink "ValleyGuides$Rope" (41 : Nat) "ValleyGuides$Rope" "came" "I") ∈ lw_all := lw_g (lw_at lw_m6 223 rfl) rfl
theorem q1527 : (Jvm.Cond.fieldLink "ValleyGuides$Rope" (44 : Nat) "ValleyGuides$Rope" "on" "LValleyGuides$Step;") ∈ lw_all := lw_g (lw_at lw_m6 225 rfl) rfl
theorem q1530 : (Jvm.Cond.fieldLink "ValleyGuides$Rope" (48 : Nat) "ValleyGuides$Rope" "done" "I") ∈ lw_all := lw_g (lw_at lw_m6 228 rfl) rfl
theorem q1532 : (Jvm.Cond.fieldLink "ValleyGuides$Rope" (51 : Nat) "ValleyGuides$Rope" "hasTurned" "Z") ∈ lw_all := lw_g (lw_at lw_m6 230 rfl) rfl
theorem q1534 : (Jvm.Cond.fieldLink "ValleyGuides$Rope" (55 : Nat) "ValleyGuides$Rope" "waited" "I") ∈ lw_all := lw_g (lw_at lw_m6 232 rfl) rfl
theorem q1536 : (Jvm.Cond.fieldLink "ValleyGuides$Rope" (58 : Nat) "ValleyGuides$Rope" "bedded" "I") ∈ lw_all := lw_g (lw_at lw_m6 234 rfl) rfl
theorem q1538 : (Jvm.Cond.fieldLink "ValleyGuides$Rope" (9 : Nat) "ValleyGuides$Rope" "where" "[I") ∈ lw_all := lw_g (lw_at lw_m6 236 rfl) rfl
theorem q1540 : (Jvm.Cond.laysFinal "ValleyGuides$Rope" "ValleyGuides$Rope" "route" "LValleyGuides$Route;") ∈ lw_all := lw_g (lw_at lw_m6 238 rfl) rfl
theorem q1541 : (Jvm.Cond.soleField "ValleyGuides$Rope" "route") ∈ lw_all := lw_g (lw_at lw_m6 239 rfl) rfl
theorem q1542 : (Jvm.Cond.laysFinal "ValleyGuides$Rope" "ValleyGuides$Rope" "strength" "I") ∈ lw_all := lw_g (lw_at lw_m7 0 rfl) rfl
theorem q1543 : (Jvm.Cond.soleField "ValleyGuides$Rope" "strength") ∈ lw_all := lw_g (lw_at lw_m7 1 rfl) rfl
theorem q1544 : (Jvm.Cond.laysFinal "ValleyGuides$Rope" "ValleyGuides$Rope" "start" "I") ∈ lw_all := lw_g (lw_at lw_m7 2 rfl) rfl
theorem q1545 : (Jvm.Cond.soleField "ValleyGuides$Rope" "start") ∈ lw_all := lw_g (lw_at lw_m7 3 rfl) rfl
theorem q1546 : (Jvm.Cond.laysFinal "ValleyGuides$Rope" "ValleyGuides$Rope" "people" "I") ∈ lw_all := lw_g (lw_at lw_m7 4 rfl) rfl
theorem q1547 : (Jvm.Cond.soleField "ValleyGuides$Rope" "people") ∈ lw_all := lw_g (lw_at lw_m7 5 rfl) rfl
theorem q1548 : (Jvm.Cond.lays "ValleyGuides$Rope" "ValleyGuides$Rope" "next" "I") ∈ lw_all := lw_g (lw_at lw_m7 6 rfl) rfl
theorem q1549 : (Jvm.Cond.soleField "ValleyGuides$Rope" "next") ∈ lw_all := lw_g (lw_at lw_m7 7 rfl) rfl
theorem q1550 : (Jvm.Cond.lays "ValleyGuides$Rope" "ValleyGuides$Rope" "place" "I") ∈ lw_all := lw_g (lw_at lw_m7 8 rfl) rfl
theorem q1551 : (Jvm.Cond.soleField "ValleyGuides$Rope" "place") ∈ lw_all := lw_g (lw_at lw_m7 9 rfl) rfl
theorem q1552 : (Jvm.Cond.lays "ValleyGuides$Rope" "ValleyGuides$Rope" "came" "I") ∈ lw_all := lw_g (lw_at lw_m7 10 rfl) rfl
theorem q1553 : (Jvm.Cond.soleField "ValleyGuides$Rope" "came") ∈ lw_all := lw_g (lw_at lw_m7 11 rfl) rfl
theorem q1554 : (Jvm.Cond.lays "ValleyGuides$Rope" "ValleyGuides$Rope" "on" "LValleyGuides$Step;") ∈ lw_all := lw_g (lw_at lw_m7 12 rfl) rfl
theorem q1555 : (Jvm.Cond.soleField "ValleyGuides$Rope" "on") ∈ lw_all := lw_g (lw_at lw_m7 13 rfl) rfl
theorem q1556 : (Jvm.Cond.lays "ValleyGuides$Rope" "ValleyGuides$Rope" "until" "I") ∈ lw_all := lw_g (lw_at lw_m7 14 rfl) rfl
theorem q1557 : (Jvm.Cond.soleField "ValleyGuides$Rope" "until") ∈ lw_all := lw_g (lw_at lw_m7 15 rfl) rfl
theorem q1558 : (Jvm.Cond.lays "ValleyGuides$Rope" "ValleyGuides$Rope" "done" "I") ∈ lw_all := lw_g (lw_at lw_m7 16 rfl) rfl
theorem q1559 : (Jvm.Cond.soleField "ValleyGuides$Rope" "done") ∈ lw_all := lw_g (lw_at lw_m7 17 rfl) rfl
theorem q1560 : (Jvm.Cond.lays "ValleyGuides$Rope" "ValleyGuides$Rope" "hasTurned" "Z") ∈ lw_all := lw_g (lw_at lw_m7 18 rfl) rfl
theorem q1561 : (Jvm.Cond.soleField "ValleyGuides$Rope" "hasTurned") ∈ lw_all := lw_g (lw_at lw_m7 19 rfl) rfl
theorem q1562 : (Jvm.Cond.lays "ValleyGuides$Rope" "ValleyGuides$Rope" "waited" "I") ∈ lw_all := lw_g (lw_at lw_m7 20 rfl) rfl
theorem q1563 : (Jvm.Cond.soleField "ValleyGuides$Rope" "waited") ∈ lw_all := lw_g (lw_at lw_m7 21 rfl) rfl
theorem q1564 : (Jvm.Cond.lays "ValleyGuides$Rope" "ValleyGuides$Rope" "bedded" "I") ∈ lw_all := lw_g (lw_at lw_m7 22 rfl) rfl
theorem q1565 : (Jvm.Cond.soleField "ValleyGuides$Rope" "bedded") ∈ lw_all := lw_g (lw_at lw_m7 23 rfl) rfl
theorem q1566 : (Jvm.Cond.laysFinal "ValleyGuides$Rope" "ValleyGuides$Rope" "where" "[I") ∈ lw_all := lw_g (lw_at lw_m7 24 rfl) rfl
theorem q1567 : (Jvm.Cond.soleField "ValleyGuides$Rope" "where") ∈ lw_all := lw_g (lw_at lw_m7 25 rfl) rfl
theorem q1568 : (Jvm.Cond.superclass "ValleyGuides$Rope" "java/lang/Object") ∈ lw_all := lw_g (lw_at lw_m7 26 rfl) rfl
theorem q1586 : (Jvm.Cond.instanceMethod ({ cls := "ValleyGuides$Rope", name := "begin", desc := "()V" } : Jvm.MethodName)) ∈ lw_all := lw_g (lw_at lw_m7 44 rfl) rfl
theorem q1587 : (Jvm.Cond.selects "ValleyGuides$Rope" ({ cls := "ValleyGuides$Rope", name := "begin", desc := "()V" } : Jvm.MethodName) ({ cls := "ValleyGuides$Rope", name := "begin", desc := "()V" } : Jvm.MethodName)) ∈ lw_all := lw_g (lw_at lw_m7 45 rfl) rfl
theorem q1588 : (Jvm.Cond.code ({ cls := "ValleyGuides$Rope", name := "begin", desc := "()V" } : Jvm.MethodName) prog_17_method_2_code (1 : Nat) (Option.none : Option Jvm.ClassFile.FieldType)) ∈ lw_all := lw_g (lw_at lw_m7 46 rfl) rfl
theorem q1589 : (Jvm.Cond.methodLink "ValleyGuides$Rope" (32 : Nat) ({ cls := "ValleyGuides$Route", name := "begins", desc := "()I" } : Jvm.MethodName)) ∈ lw_all := lw_g (lw_at lw_m7 47 rfl) rfl
theorem q1595 : (Jvm.Cond.instanceMethod ({ cls := "ValleyGuides$Rope", name := "isWaiting", desc := "()Z" } : Jvm.MethodName)) ∈ lw_all := lw_g (lw_at lw_m7 53 rfl) rfl
theorem q1596 : (Jvm.Cond.selects "ValleyGuides$Rope" ({ cls := "ValleyGuides$Rope", name := "isWaiting", desc := "()Z" } : Jvm.MethodName) ({ cls := "ValleyGuides$Rope", name := "isWaiting", desc := "()Z" } : Jvm.MethodName)) ∈ lw_all := lw_g (lw_at lw_m7 54 rfl) rfl
theorem q1597 : (Jvm.Cond.code ({ cls := "ValleyGuides$Rope", name := "isWaiting", desc := "()Z" } : Jvm.MethodName) prog_17_method_3_code (1 : Nat) (Option.some Jvm.ClassFile.FieldType.boolean)) ∈ lw_all := lw_g (lw_at lw_m7 55 rfl) rfl
theorem q2424 : (Jvm.Cond.castable "ValleyGuides$Rope" "java/lang/Object") ∈ lw_tbl := lw_at lw_m10 162 rfl
theorem in_X24 : ∀ w ∈ wsX240, w ∈ lw_all := lw_in wsX240 [1540, 1542, 1544, 1546, 1548, 1550, 1552, 1554, 1556, 1558, 1560, 1562, 1564, 1566] (by decide +kernel) (by decide +kernel)

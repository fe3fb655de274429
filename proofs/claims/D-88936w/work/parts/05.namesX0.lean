/-! ValleyGuides -/
set_option maxRecDepth 100000
def RX0 : String := "ValleyGuides"
def TX0 : u_T := fun k => match k with
  | 0 => ("ValleyGuides", "beds", "[I", true)
  | 1 => ("ValleyGuides", "placeMany", "I", false)
  | 2 => ("ValleyGuides", "steps", "[LValleyGuides$Step;", true)
  | 3 => ("ValleyGuides", "stepMany", "I", false)
  | 4 => ("ValleyGuides", "routes", "[LValleyGuides$Route;", true)
  | 5 => ("ValleyGuides", "routeMany", "I", false)
  | 6 => ("ValleyGuides", "sheets", "[LValleyGuides$Sheet;", true)
  | 7 => ("ValleyGuides", "skies", "[[I", true)
  | 8 => ("ValleyGuides", "blindFrom", "[I", true)
  | 9 => ("ValleyGuides", "faults", "[I", true)
  | 10 => ("ValleyGuides", "comes", "[I", true)
  | 11 => ("ValleyGuides", "isLeft", "[Z", true)
  | 12 => ("ValleyGuides", "tape", "[B", true)
  | 13 => ("ValleyGuides", "taped", "I", false)
  | 14 => ("ValleyGuides", "fault", "I", false)
  | 15 => ("ValleyGuides", "lines", "Ljava/util/List;", false)
  | 16 => ("ValleyGuides", "day", "I", false)
  | 17 => ("ValleyGuides", "vars", "[I", true)
  | 18 => ("ValleyGuides", "guides", "[LValleyGuides$Guide;", true)
  | 19 => ("ValleyGuides", "guideMany", "I", false)
  | 20 => ("ValleyGuides", "list", "Ljava/util/List;", true)
  | 21 => ("ValleyGuides", "purse", "I", false)
  | 22 => ("ValleyGuides", "going", "[LValleyGuides$Guide;", true)
  | 23 => ("ValleyGuides", "strengths", "[I", true)
  | 24 => ("ValleyGuides", "wishes", "[[I", true)
  | 25 => ("ValleyGuides", "people", "I", false)
  | 26 => ("ValleyGuides", "best", "[I", true)
  | 27 => ("ValleyGuides", "ropes", "[LValleyGuides$Rope;", true)
  | 28 => ("ValleyGuides", "ropeMany", "I", false)
  | 29 => ("ValleyGuides", "bedsTaken", "[I", true)
  | 30 => ("ValleyGuides", "lain", "[I", true)
  | 31 => ("ValleyGuides", "visits", "[I", true)
  | 32 => ("ValleyGuides", "entryRoute", "[I", true)
  | 33 => ("ValleyGuides", "entryGuide", "[I", true)
  | 34 => ("ValleyGuides", "entryHours", "[I", true)
  | 35 => ("ValleyGuides", "entryMany", "I", false)
  | 36 => ("ValleyGuides", "piece", "[I", true)
  | 37 => ("ValleyGuides", "rowOf", "[I", true)
  | 38 => ("ValleyGuides", "table", "[[J", false)
  | 39 => ("ValleyGuides", "whole", "J", false)
  | 40 => ("ValleyGuides", "kept", "LValleyGuides$Image;", true)
  | _ => ("ValleyGuides", "isKept", "Z", false)
def tyX0 : Nat → FieldType := fun k => match k with
  | 0 => .array .int
  | 1 => .int
  | 2 => .array (.object "ValleyGuides$Step")
  | 3 => .int
  | 4 => .array (.object "ValleyGuides$Route")
  | 5 => .int
  | 6 => .array (.object "ValleyGuides$Sheet")
  | 7 => .array (.array .int)
  | 8 => .array .int
  | 9 => .array .int
  | 10 => .array .int
  | 11 => .array .boolean
  | 12 => .array .byte
  | 13 => .int
  | 14 => .int
  | 15 => .object "java/util/List"
  | 16 => .int
  | 17 => .array .int
  | 18 => .array (.object "ValleyGuides$Guide")
  | 19 => .int
  | 20 => .object "java/util/List"
  | 21 => .int
  | 22 => .array (.object "ValleyGuides$Guide")
  | 23 => .array .int
  | 24 => .array (.array .int)
  | 25 => .int
  | 26 => .array .int
  | 27 => .array (.object "ValleyGuides$Rope")
  | 28 => .int
  | 29 => .array .int
  | 30 => .array .int
  | 31 => .array .int
  | 32 => .array .int
  | 33 => .array .int
  | 34 => .array .int
  | 35 => .int
  | 36 => .array .int
  | 37 => .array .int
  | 38 => .array (.array .long)
  | 39 => .long
  | 40 => .object "ValleyGuides$Image"
  | _ => .boolean
abbrev wsX00 : List Cond := u_ws RX0 TX0 42
set_option maxRecDepth 100000 in
theorem nmX0 : ∀ a, a < 42 → ∀ b, b < 42 → a ≠ b → (TX0 a).2.1 ≠ (TX0 b).2.1 := by decide +kernel
set_option maxRecDepth 100000 in
theorem tyX0_ok : ∀ k, k < 42 → parseFieldDescriptor (TX0 k).2.2.1 = some (tyX0 k) := by decide +kernel
abbrev cX0_place : ByteArray := prog_1_method_7_code
def yX0_place : MethodName := ⟨RX0, "place", "(I)I"⟩
def dkwX0_place_2 : List UInt8 := [180, 0, 5, 4, 100, 172]
abbrev dktX0_place_2 : List UInt8 := dkwX0_place_2 ++ []
def dkwX0_place_1 : List UInt8 := [16, 253, 172, 42, 180, 0, 23, 42, 180, 0, 5, 27, 79, 42, 89, 180, 0, 5, 4, 96, 181, 0, 5, 42]
abbrev dktX0_place_1 : List UInt8 := dkwX0_place_1 ++ dktX0_place_2
def dkwX0_place_0 : List UInt8 := [27, 133, 9, 20, 0, 21, 184, 0, 9, 154, 0, 5, 2, 172, 42, 180, 0, 5, 16, 12, 160, 0, 6]
abbrev dktX0_place_0 : List UInt8 := dkwX0_place_0 ++ dktX0_place_1
theorem dksX0_place_0 : cX0_place.data.toList.drop 0 = dktX0_place_0 := by decide +kernel
theorem dksX0_place_1 : cX0_place.data.toList.drop 23 = dktX0_place_1 := dk_seg dksX0_place_0 23 rfl rfl
theorem dksX0_place_2 : cX0_place.data.toList.drop 47 = dktX0_place_2 := dk_seg dksX0_place_1 24 rfl rfl
theorem dX0_place_0 : decode cX0_place 0 = .ok (.iload_n 1, 1) := dk_27 (dk_at dksX0_place_0 0 rfl rfl)
theorem dX0_place_1 : decode cX0_place 1 = .ok (.i2l, 1) := dk_133 (dk_at dksX0_place_0 1 rfl rfl)
theorem dX0_place_2 : decode cX0_place 2 = .ok (.lconst 0, 1) := dk_9 (dk_at dksX0_place_0 2 rfl rfl)
theorem dX0_place_3 : decode cX0_place 3 = .ok (.ldc2_w 21, 3) := dk_20 0 21 (dk_at dksX0_place_0 3 rfl rfl)
theorem dX0_place_6 : decode cX0_place 6 = .ok (.invokestatic 9, 3) := dk_184 0 9 (dk_at dksX0_place_0 6 rfl rfl)
theorem dX0_place_9 : decode cX0_place 9 = .ok (.ifCond .ne 5, 3) := dk_154 0 5 (dk_at dksX0_place_0 9 rfl rfl)
theorem dX0_place_12 : decode cX0_place 12 = .ok (.iconst (-1), 1) := dk_2 (dk_at dksX0_place_0 12 rfl rfl)
theorem dX0_place_13 : decode cX0_place 13 = .ok (.ireturn, 1) := dk_172 (dk_at dksX0_place_0 13 rfl rfl)
theorem dX0_place_14 : decode cX0_place 14 = .ok (.aload_n 0, 1) := dk_42 (dk_at dksX0_place_0 14 rfl rfl)
theorem dX0_place_15 : decode cX0_place 15 = .ok (.getfield 5, 3) := dk_180 0 5 (dk_at dksX0_place_0 15 rfl rfl)
theorem dX0_place_18 : decode cX0_place 18 = .ok (.bipush 12, 2) := dk_16 12 (dk_at dksX0_place_0 18 rfl rfl)
theorem dX0_place_20 : decode cX0_place 20 = .ok (.if_icmp .ne 6, 3) := dk_160 0 6 (dk_at dksX0_place_0 20 rfl rfl)
theorem dX0_place_23 : decode cX0_place 23 = .ok (.bipush (-3), 2) := dk_16 253 (dk_at dksX0_place_1 0 rfl rfl)
theorem dX0_place_25 : decode cX0_place 25 = .ok (.ireturn, 1) := dk_172 (dk_at dksX0_place_1 2 rfl rfl)
theorem dX0_place_26 : decode cX0_place 26 = .ok (.aload_n 0, 1) := dk_42 (dk_at dksX0_place_1 3 rfl rfl)
theorem dX0_place_27 : decode cX0_place 27 = .ok (.getfield 23, 3) := dk_180 0 23 (dk_at dksX0_place_1 4 rfl rfl)
theorem dX0_place_30 : decode cX0_place 30 = .ok (.aload_n 0, 1) := dk_42 (dk_at dksX0_place_1 7 rfl rfl)
theorem dX0_place_31 : decode cX0_place 31 = .ok (.getfield 5, 3) := dk_180 0 5 (dk_at dksX0_place_1 8 rfl rfl)
theorem dX0_place_34 : decode cX0_place 34 = .ok (.iload_n 1, 1) := dk_27 (dk_at dksX0_place_1 11 rfl rfl)
theorem dX0_place_35 : decode cX0_place 35 = .ok (.iastore, 1) := dk_79 (dk_at dksX0_place_1 12 rfl rfl)
theorem dX0_place_36 : decode cX0_place 36 = .ok (.aload_n 0, 1) := dk_42 (dk_at dksX0_place_1 13 rfl rfl)
theorem dX0_place_37 : decode cX0_place 37 = .ok (.dup, 1) := dk_89 (dk_at dksX0_place_1 14 rfl rfl)
theorem dX0_place_38 : decode cX0_place 38 = .ok (.getfield 5, 3) := dk_180 0 5 (dk_at dksX0_place_1 15 rfl rfl)
theorem dX0_place_41 : decode cX0_place 41 = .ok (.iconst 1, 1) := dk_4 (dk_at dksX0_place_1 18 rfl rfl)
theorem dX0_place_42 : decode cX0_place 42 = .ok (.iadd, 1) := dk_96 (dk_at dksX0_place_1 19 rfl rfl)
theorem dX0_place_43 : decode cX0_place 43 = .ok (.putfield 5, 3) := dk_181 0 5 (dk_at dksX0_place_1 20 rfl rfl)
theorem dX0_place_46 : decode cX0_place 46 = .ok (.aload_n 0, 1) := dk_42 (dk_at dksX0_place_1 23 rfl rfl)
theorem dX0_place_47 : decode cX0_place 47 = .ok (.getfield 5, 3) := dk_180 0 5 (dk_at dksX0_place_2 0 rfl rfl)
theorem dX0_place_50 : decode cX0_place 50 = .ok (.iconst 1, 1) := dk_4 (dk_at dksX0_place_2 3 rfl rfl)
theorem dX0_place_51 : decode cX0_place 51 = .ok (.isub, 1) := dk_100 (dk_at dksX0_place_2 4 rfl rfl)
theorem dX0_place_52 : decode cX0_place 52 = .ok (.ireturn, 1) := dk_172 (dk_at dksX0_place_2 5 rfl rfl)
abbrev cX0_isIn : ByteArray := prog_1_method_1_code
def yX0_isIn : MethodName := ⟨RX0, "isIn", "(JJJ)Z"⟩
def dkwX0_isIn_0 : List UInt8 := [30, 32, 148, 155, 0, 14, 30, 22, 4, 148, 157, 0, 7, 4, 167, 0, 4, 3, 172]
abbrev dktX0_isIn_0 : List UInt8 := dkwX0_isIn_0 ++ []
theorem dksX0_isIn_0 : cX0_isIn.data.toList.drop 0 = dktX0_isIn_0 := by decide +kernel
theorem dX0_isIn_0 : decode cX0_isIn 0 = .ok (.lload_n 0, 1) := dk_30 (dk_at dksX0_isIn_0 0 rfl rfl)
theorem dX0_isIn_1 : decode cX0_isIn 1 = .ok (.lload_n 2, 1) := dk_32 (dk_at dksX0_isIn_0 1 rfl rfl)
theorem dX0_isIn_2 : decode cX0_isIn 2 = .ok (.lcmp, 1) := dk_148 (dk_at dksX0_isIn_0 2 rfl rfl)
theorem dX0_isIn_3 : decode cX0_isIn 3 = .ok (.ifCond .lt 14, 3) := dk_155 0 14 (dk_at dksX0_isIn_0 3 rfl rfl)
theorem dX0_isIn_6 : decode cX0_isIn 6 = .ok (.lload_n 0, 1) := dk_30 (dk_at dksX0_isIn_0 6 rfl rfl)
theorem dX0_isIn_7 : decode cX0_isIn 7 = .ok (.lload 4, 2) := dk_22 4 (dk_at dksX0_isIn_0 7 rfl rfl)
theorem dX0_isIn_9 : decode cX0_isIn 9 = .ok (.lcmp, 1) := dk_148 (dk_at dksX0_isIn_0 9 rfl rfl)
theorem dX0_isIn_10 : decode cX0_isIn 10 = .ok (.ifCond .gt 7, 3) := dk_157 0 7 (dk_at dksX0_isIn_0 10 rfl rfl)
theorem dX0_isIn_13 : decode cX0_isIn 13 = .ok (.iconst 1, 1) := dk_4 (dk_at dksX0_isIn_0 13 rfl rfl)
theorem dX0_isIn_14 : decode cX0_isIn 14 = .ok (.goto 4, 3) := dk_167 0 4 (dk_at dksX0_isIn_0 14 rfl rfl)
theorem dX0_isIn_17 : decode cX0_isIn 17 = .ok (.iconst 0, 1) := dk_3 (dk_at dksX0_isIn_0 17 rfl rfl)
theorem dX0_isIn_18 : decode cX0_isIn 18 = .ok (.ireturn, 1) := dk_172 (dk_at dksX0_isIn_0 18 rfl rfl)
abbrev cX0_step : ByteArray := prog_1_method_9_code
def yX0_step : MethodName := ⟨RX0, "step", "(IIIIIZ)I"⟩
def dkwX0_step_4 : List UInt8 := [180, 0, 13, 4, 96, 181, 0, 13, 42, 180, 0, 13, 4, 100, 172]
abbrev dktX0_step_4 : List UInt8 := dkwX0_step_4 ++ []
def dkwX0_step_3 : List UInt8 := [172, 42, 180, 0, 53, 42, 180, 0, 13, 29, 27, 28, 21, 4, 21, 5, 21, 6, 184, 0, 57, 83, 42, 89]
abbrev dktX0_step_3 : List UInt8 := dkwX0_step_3 ++ dktX0_step_4
def dkwX0_step_2 : List UInt8 := [133, 9, 20, 0, 51, 184, 0, 9, 154, 0, 5, 2, 172, 42, 180, 0, 13, 16, 20, 160, 0, 6, 16, 253]
abbrev dktX0_step_2 : List UInt8 := dkwX0_step_2 ++ dktX0_step_3
def dkwX0_step_1 : List UInt8 := [20, 0, 49, 184, 0, 9, 153, 0, 29, 21, 4, 133, 10, 20, 0, 21, 184, 0, 9, 153, 0, 16, 21, 5]
abbrev dktX0_step_1 : List UInt8 := dkwX0_step_1 ++ dktX0_step_2
def dkwX0_step_0 : List UInt8 := [42, 27, 182, 0, 45, 153, 0, 54, 42, 28, 182, 0, 45, 153, 0, 46, 27, 28, 159, 0, 41, 29, 133, 9]
abbrev dktX0_step_0 : List UInt8 := dkwX0_step_0 ++ dktX0_step_1
theorem dksX0_step_0 : cX0_step.data.toList.drop 0 = dktX0_step_0 := by decide +kernel
theorem dksX0_step_1 : cX0_step.data.toList.drop 24 = dktX0_step_1 := dk_seg dksX0_step_0 24 rfl rfl
theorem dksX0_step_2 : cX0_step.data.toList.drop 48 = dktX0_step_2 := dk_seg dksX0_step_1 24 rfl rfl
theorem dksX0_step_3 : cX0_step.data.toList.drop 72 = dktX0_step_3 := dk_seg dksX0_step_2 24 rfl rfl
theorem dksX0_step_4 : cX0_step.data.toList.drop 96 = dktX0_step_4 := dk_seg dksX0_step_3 24 rfl rfl
theorem dX0_step_0 : decode cX0_step 0 = .ok (.aload_n 0, 1) := dk_42 (dk_at dksX0_step_0 0 rfl rfl)
theorem dX0_step_1 : decode cX0_step 1 = .ok (.iload_n 1, 1) := dk_27 (dk_at dksX0_step_0 1 rfl rfl)
theorem dX0_step_2 : decode cX0_step 2 = .ok (.invokevirtual 45, 3) := dk_182 0 45 (dk_at dksX0_step_0 2 rfl rfl)
theorem dX0_step_5 : decode cX0_step 5 = .ok (.ifCond .eq 54, 3) := dk_153 0 54 (dk_at dksX0_step_0 5 rfl rfl)
theorem dX0_step_8 : decode cX0_step 8 = .ok (.aload_n 0, 1) := dk_42 (dk_at dksX0_step_0 8 rfl rfl)
theorem dX0_step_9 : decode cX0_step 9 = .ok (.iload_n 2, 1) := dk_28 (dk_at dksX0_step_0 9 rfl rfl)
theorem dX0_step_10 : decode cX0_step 10 = .ok (.invokevirtual 45, 3) := dk_182 0 45 (dk_at dksX0_step_0 10 rfl rfl)
theorem dX0_step_13 : decode cX0_step 13 = .ok (.ifCond .eq 46, 3) := dk_153 0 46 (dk_at dksX0_step_0 13 rfl rfl)
theorem dX0_step_16 : decode cX0_step 16 = .ok (.iload_n 1, 1) := dk_27 (dk_at dksX0_step_0 16 rfl rfl)
theorem dX0_step_17 : decode cX0_step 17 = .ok (.iload_n 2, 1) := dk_28 (dk_at dksX0_step_0 17 rfl rfl)
theorem dX0_step_18 : decode cX0_step 18 = .ok (.if_icmp .eq 41, 3) := dk_159 0 41 (dk_at dksX0_step_0 18 rfl rfl)
theorem dX0_step_21 : decode cX0_step 21 = .ok (.iload_n 3, 1) := dk_29 (dk_at dksX0_step_0 21 rfl rfl)
theorem dX0_step_22 : decode cX0_step 22 = .ok (.i2l, 1) := dk_133 (dk_at dksX0_step_0 22 rfl rfl)
theorem dX0_step_23 : decode cX0_step 23 = .ok (.lconst 0, 1) := dk_9 (dk_at dksX0_step_0 23 rfl rfl)
theorem dX0_step_24 : decode cX0_step 24 = .ok (.ldc2_w 49, 3) := dk_20 0 49 (dk_at dksX0_step_1 0 rfl rfl)
theorem dX0_step_27 : decode cX0_step 27 = .ok (.invokestatic 9, 3) := dk_184 0 9 (dk_at dksX0_step_1 3 rfl rfl)
theorem dX0_step_30 : decode cX0_step 30 = .ok (.ifCond .eq 29, 3) := dk_153 0 29 (dk_at dksX0_step_1 6 rfl rfl)
theorem dX0_step_33 : decode cX0_step 33 = .ok (.iload 4, 2) := dk_21 4 (dk_at dksX0_step_1 9 rfl rfl)
theorem dX0_step_35 : decode cX0_step 35 = .ok (.i2l, 1) := dk_133 (dk_at dksX0_step_1 11 rfl rfl)
theorem dX0_step_36 : decode cX0_step 36 = .ok (.lconst 1, 1) := dk_10 (dk_at dksX0_step_1 12 rfl rfl)
theorem dX0_step_37 : decode cX0_step 37 = .ok (.ldc2_w 21, 3) := dk_20 0 21 (dk_at dksX0_step_1 13 rfl rfl)
theorem dX0_step_40 : decode cX0_step 40 = .ok (.invokestatic 9, 3) := dk_184 0 9 (dk_at dksX0_step_1 16 rfl rfl)
theorem dX0_step_43 : decode cX0_step 43 = .ok (.ifCond .eq 16, 3) := dk_153 0 16 (dk_at dksX0_step_1 19 rfl rfl)
theorem dX0_step_46 : decode cX0_step 46 = .ok (.iload 5, 2) := dk_21 5 (dk_at dksX0_step_1 22 rfl rfl)
theorem dX0_step_48 : decode cX0_step 48 = .ok (.i2l, 1) := dk_133 (dk_at dksX0_step_2 0 rfl rfl)
theorem dX0_step_49 : decode cX0_step 49 = .ok (.lconst 0, 1) := dk_9 (dk_at dksX0_step_2 1 rfl rfl)
theorem dX0_step_50 : decode cX0_step 50 = .ok (.ldc2_w 51, 3) := dk_20 0 51 (dk_at dksX0_step_2 2 rfl rfl)
theorem dX0_step_53 : decode cX0_step 53 = .ok (.invokestatic 9, 3) := dk_184 0 9 (dk_at dksX0_step_2 5 rfl rfl)
theorem dX0_step_56 : decode cX0_step 56 = .ok (.ifCond .ne 5, 3) := dk_154 0 5 (dk_at dksX0_step_2 8 rfl rfl)
theorem dX0_step_59 : decode cX0_step 59 = .ok (.iconst (-1), 1) := dk_2 (dk_at dksX0_step_2 11 rfl rfl)
theorem dX0_step_60 : decode cX0_step 60 = .ok (.ireturn, 1) := dk_172 (dk_at dksX0_step_2 12 rfl rfl)
theorem dX0_step_61 : decode cX0_step 61 = .ok (.aload_n 0, 1) := dk_42 (dk_at dksX0_step_2 13 rfl rfl)
theorem dX0_step_62 : decode cX0_step 62 = .ok (.getfield 13, 3) := dk_180 0 13 (dk_at dksX0_step_2 14 rfl rfl)
theorem dX0_step_65 : decode cX0_step 65 = .ok (.bipush 20, 2) := dk_16 20 (dk_at dksX0_step_2 17 rfl rfl)
theorem dX0_step_67 : decode cX0_step 67 = .ok (.if_icmp .ne 6, 3) := dk_160 0 6 (dk_at dksX0_step_2 19 rfl rfl)
theorem dX0_step_70 : decode cX0_step 70 = .ok (.bipush (-3), 2) := dk_16 253 (dk_at dksX0_step_2 22 rfl rfl)
theorem dX0_step_72 : decode cX0_step 72 = .ok (.ireturn, 1) := dk_172 (dk_at dksX0_step_3 0 rfl rfl)
theorem dX0_step_73 : decode cX0_step 73 = .ok (.aload_n 0, 1) := dk_42 (dk_at dksX0_step_3 1 rfl rfl)
theorem dX0_step_74 : decode cX0_step 74 = .ok (.getfield 53, 3) := dk_180 0 53 (dk_at dksX0_step_3 2 rfl rfl)
theorem dX0_step_77 : decode cX0_step 77 = .ok (.aload_n 0, 1) := dk_42 (dk_at dksX0_step_3 5 rfl rfl)
theorem dX0_step_78 : decode cX0_step 78 = .ok (.getfield 13, 3) := dk_180 0 13 (dk_at dksX0_step_3 6 rfl rfl)
theorem dX0_step_81 : decode cX0_step 81 = .ok (.iload_n 3, 1) := dk_29 (dk_at dksX0_step_3 9 rfl rfl)
theorem dX0_step_82 : decode cX0_step 82 = .ok (.iload_n 1, 1) := dk_27 (dk_at dksX0_step_3 10 rfl rfl)
theorem dX0_step_83 : decode cX0_step 83 = .ok (.iload_n 2, 1) := dk_28 (dk_at dksX0_step_3 11 rfl rfl)
theorem dX0_step_84 : decode cX0_step 84 = .ok (.iload 4, 2) := dk_21 4 (dk_at dksX0_step_3 12 rfl rfl)
theorem dX0_step_86 : decode cX0_step 86 = .ok (.iload 5, 2) := dk_21 5 (dk_at dksX0_step_3 14 rfl rfl)
theorem dX0_step_88 : decode cX0_step 88 = .ok (.iload 6, 2) := dk_21 6 (dk_at dksX0_step_3 16 rfl rfl)
theorem dX0_step_90 : decode cX0_step 90 = .ok (.invokestatic 57, 3) := dk_184 0 57 (dk_at dksX0_step_3 18 rfl rfl)
theorem dX0_step_93 : decode cX0_step 93 = .ok (.aastore, 1) := dk_83 (dk_at dksX0_step_3 21 rfl rfl)
theorem dX0_step_94 : decode cX0_step 94 = .ok (.aload_n 0, 1) := dk_42 (dk_at dksX0_step_3 22 rfl rfl)
theorem dX0_step_95 : decode cX0_step 95 = .ok (.dup, 1) := dk_89 (dk_at dksX0_step_3 23 rfl rfl)
theorem dX0_step_96 : decode cX0_step 96 = .ok (.getfield 13, 3) := dk_180 0 13 (dk_at dksX0_step_4 0 rfl rfl)
theorem dX0_step_99 : decode cX0_step 99 = .ok (.iconst 1, 1) := dk_4 (dk_at dksX0_step_4 3 rfl rfl)
theorem dX0_step_100 : decode cX0_step 100 = .ok (.iadd, 1) := dk_96 (dk_at dksX0_step_4 4 rfl rfl)
theorem dX0_step_101 : decode cX0_step 101 = .ok (.putfield 13, 3) := dk_181 0 13 (dk_at dksX0_step_4 5 rfl rfl)
theorem dX0_step_104 : decode cX0_step 104 = .ok (.aload_n 0, 1) := dk_42 (dk_at dksX0_step_4 8 rfl rfl)
theorem dX0_step_105 : decode cX0_step 105 = .ok (.getfield 13, 3) := dk_180 0 13 (dk_at dksX0_step_4 9 rfl rfl)
theorem dX0_step_108 : decode cX0_step 108 = .ok (.iconst 1, 1) := dk_4 (dk_at dksX0_step_4 12 rfl rfl)
theorem dX0_step_109 : decode cX0_step 109 = .ok (.isub, 1) := dk_100 (dk_at dksX0_step_4 13 rfl rfl)
theorem dX0_step_110 : decode cX0_step 110 = .ok (.ireturn, 1) := dk_172 (dk_at dksX0_step_4 14 rfl rfl)
abbrev cX0_isPlace : ByteArray := prog_1_method_2_code
def yX0_isPlace : MethodName := ⟨RX0, "isPlace", "(I)Z"⟩
def dkwX0_isPlace_0 : List UInt8 := [27, 133, 9, 42, 180, 0, 5, 4, 100, 133, 184, 0, 9, 172]
abbrev dktX0_isPlace_0 : List UInt8 := dkwX0_isPlace_0 ++ []
theorem dksX0_isPlace_0 : cX0_isPlace.data.toList.drop 0 = dktX0_isPlace_0 := by decide +kernel
theorem dX0_isPlace_0 : decode cX0_isPlace 0 = .ok (.iload_n 1, 1) := dk_27 (dk_at dksX0_isPlace_0 0 rfl rfl)
theorem dX0_isPlace_1 : decode cX0_isPlace 1 = .ok (.i2l, 1) := dk_133 (dk_at dksX0_isPlace_0 1 rfl rfl)
theorem dX0_isPlace_2 : decode cX0_isPlace 2 = .ok (.lconst 0, 1) := dk_9 (dk_at dksX0_isPlace_0 2 rfl rfl)
theorem dX0_isPlace_3 : decode cX0_isPlace 3 = .ok (.aload_n 0, 1) := dk_42 (dk_at dksX0_isPlace_0 3 rfl rfl)
theorem dX0_isPlace_4 : decode cX0_isPlace 4 = .ok (.getfield 5, 3) := dk_180 0 5 (dk_at dksX0_isPlace_0 4 rfl rfl)
theorem dX0_isPlace_7 : decode cX0_isPlace 7 = .ok (.iconst 1, 1) := dk_4 (dk_at dksX0_isPlace_0 7 rfl rfl)
theorem dX0_isPlace_8 : decode cX0_isPlace 8 = .ok (.isub, 1) := dk_100 (dk_at dksX0_isPlace_0 8 rfl rfl)
theorem dX0_isPlace_9 : decode cX0_isPlace 9 = .ok (.i2l, 1) := dk_133 (dk_at dksX0_isPlace_0 9 rfl rfl)
theorem dX0_isPlace_10 : decode cX0_isPlace 10 = .ok (.invokestatic 9, 3) := dk_184 0 9 (dk_at dksX0_isPlace_0 10 rfl rfl)
theorem dX0_isPlace_13 : decode cX0_isPlace 13 = .ok (.ireturn, 1) := dk_172 (dk_at dksX0_isPlace_0 13 rfl rfl)
abbrev cX0_made : ByteArray := prog_1_method_8_code
def yX0_made : MethodName := ⟨RX0, "made", "(IIIIIZ)LValleyGuides$Step;"⟩
def dkwX0_made_5 : List UInt8 := [183, 0, 44, 176]
abbrev dktX0_made_5 : List UInt8 := dkwX0_made_5 ++ []
def dkwX0_made_4 : List UInt8 := [89, 27, 28, 29, 21, 4, 21, 5, 183, 0, 41, 176, 187, 0, 42, 89, 27, 28, 29, 21, 4, 21, 5]
abbrev dktX0_made_4 : List UInt8 := dkwX0_made_4 ++ dktX0_made_5
def dkwX0_made_3 : List UInt8 := [21, 5, 183, 0, 35, 176, 187, 0, 36, 89, 27, 28, 29, 21, 4, 21, 5, 183, 0, 38, 176, 187, 0, 39]
abbrev dktX0_made_3 : List UInt8 := dkwX0_made_3 ++ dktX0_made_4
def dkwX0_made_2 : List UInt8 := [187, 0, 27, 89, 27, 28, 29, 21, 4, 21, 5, 183, 0, 29, 176, 187, 0, 33, 89, 27, 28, 29, 21, 4]
abbrev dktX0_made_2 : List UInt8 := dkwX0_made_2 ++ dktX0_made_3
def dkwX0_made_1 : List UInt8 := [170, 0, 0, 0, 0, 0, 91, 0, 0, 0, 0, 0, 0, 0, 3, 0, 0, 0, 31, 0, 0, 0, 46, 0, 0, 0, 61, 0, 0, 0, 76]
abbrev dktX0_made_1 : List UInt8 := dkwX0_made_1 ++ dktX0_made_2
def dkwX0_made_0 : List UInt8 := [26]
abbrev dktX0_made_0 : List UInt8 := dkwX0_made_0 ++ dktX0_made_1
theorem dksX0_made_0 : cX0_made.data.toList.drop 0 = dktX0_made_0 := by decide +kernel
theorem dksX0_made_1 : cX0_made.data.toList.drop 1 = dktX0_made_1 := dk_seg dksX0_made_0 1 rfl rfl
theorem dksX0_made_2 : cX0_made.data.toList.drop 32 = dktX0_made_2 := dk_seg dksX0_made_1 31 rfl rfl
theorem dksX0_made_3 : cX0_made.data.toList.drop 56 = dktX0_made_3 := dk_seg dksX0_made_2 24 rfl rfl
theorem dksX0_made_4 : cX0_made.data.toList.drop 80 = dktX0_made_4 := dk_seg dksX0_made_3 24 rfl rfl
theorem dksX0_made_5 : cX0_made.data.toList.drop 103 = dktX0_made_5 := dk_seg dksX0_made_4 23 rfl rfl
theorem dX0_made_0 : decode cX0_made 0 = .ok (.iload_n 0, 1) := dk_26 (dk_at dksX0_made_0 0 rfl rfl)
theorem dX0_made_1 : decode cX0_made 1 = .ok (.tableswitch 91 0 3 #[31, 46, 61, 76], 31) := by decide +kernel
theorem dX0_made_32 : decode cX0_made 32 = .ok (.new 27, 3) := dk_187 0 27 (dk_at dksX0_made_2 0 rfl rfl)
theorem dX0_made_35 : decode cX0_made 35 = .ok (.dup, 1) := dk_89 (dk_at dksX0_made_2 3 rfl rfl)
theorem dX0_made_36 : decode cX0_made 36 = .ok (.iload_n 1, 1) := dk_27 (dk_at dksX0_made_2 4 rfl rfl)
theorem dX0_made_37 : decode cX0_made 37 = .ok (.iload_n 2, 1) := dk_28 (dk_at dksX0_made_2 5 rfl rfl)
theorem dX0_made_38 : decode cX0_made 38 = .ok (.iload_n 3, 1) := dk_29 (dk_at dksX0_made_2 6 rfl rfl)
theorem dX0_made_39 : decode cX0_made 39 = .ok (.iload 4, 2) := dk_21 4 (dk_at dksX0_made_2 7 rfl rfl)
theorem dX0_made_41 : decode cX0_made 41 = .ok (.iload 5, 2) := dk_21 5 (dk_at dksX0_made_2 9 rfl rfl)
theorem dX0_made_43 : decode cX0_made 43 = .ok (.invokespecial 29, 3) := dk_183 0 29 (dk_at dksX0_made_2 11 rfl rfl)
theorem dX0_made_46 : decode cX0_made 46 = .ok (.areturn, 1) := dk_176 (dk_at dksX0_made_2 14 rfl rfl)
theorem dX0_made_47 : decode cX0_made 47 = .ok (.new 33, 3) := dk_187 0 33 (dk_at dksX0_made_2 15 rfl rfl)
theorem dX0_made_50 : decode cX0_made 50 = .ok (.dup, 1) := dk_89 (dk_at dksX0_made_2 18 rfl rfl)
theorem dX0_made_51 : decode cX0_made 51 = .ok (.iload_n 1, 1) := dk_27 (dk_at dksX0_made_2 19 rfl rfl)
theorem dX0_made_52 : decode cX0_made 52 = .ok (.iload_n 2, 1) := dk_28 (dk_at dksX0_made_2 20 rfl rfl)
theorem dX0_made_53 : decode cX0_made 53 = .ok (.iload_n 3, 1) := dk_29 (dk_at dksX0_made_2 21 rfl rfl)
theorem dX0_made_54 : decode cX0_made 54 = .ok (.iload 4, 2) := dk_21 4 (dk_at dksX0_made_2 22 rfl rfl)
theorem dX0_made_56 : decode cX0_made 56 = .ok (.iload 5, 2) := dk_21 5 (dk_at dksX0_made_3 0 rfl rfl)
theorem dX0_made_58 : decode cX0_made 58 = .ok (.invokespecial 35, 3) := dk_183 0 35 (dk_at dksX0_made_3 2 rfl rfl)
theorem dX0_made_61 : decode cX0_made 61 = .ok (.areturn, 1) := dk_176 (dk_at dksX0_made_3 5 rfl rfl)
theorem dX0_made_62 : decode cX0_made 62 = .ok (.new 36, 3) := dk_187 0 36 (dk_at dksX0_made_3 6 rfl rfl)
theorem dX0_made_65 : decode cX0_made 65 = .ok (.dup, 1) := dk_89 (dk_at dksX0_made_3 9 rfl rfl)
theorem dX0_made_66 : decode cX0_made 66 = .ok (.iload_n 1, 1) := dk_27 (dk_at dksX0_made_3 10 rfl rfl)
theorem dX0_made_67 : decode cX0_made 67 = .ok (.iload_n 2, 1) := dk_28 (dk_at dksX0_made_3 11 rfl rfl)
theorem dX0_made_68 : decode cX0_made 68 = .ok (.iload_n 3, 1) := dk_29 (dk_at dksX0_made_3 12 rfl rfl)
theorem dX0_made_69 : decode cX0_made 69 = .ok (.iload 4, 2) := dk_21 4 (dk_at dksX0_made_3 13 rfl rfl)
theorem dX0_made_71 : decode cX0_made 71 = .ok (.iload 5, 2) := dk_21 5 (dk_at dksX0_made_3 15 rfl rfl)
theorem dX0_made_73 : decode cX0_made 73 = .ok (.invokespecial 38, 3) := dk_183 0 38 (dk_at dksX0_made_3 17 rfl rfl)
theorem dX0_made_76 : decode cX0_made 76 = .ok (.areturn, 1) := dk_176 (dk_at dksX0_made_3 20 rfl rfl)
theorem dX0_made_77 : decode cX0_made 77 = .ok (.new 39, 3) := dk_187 0 39 (dk_at dksX0_made_3 21 rfl rfl)
theorem dX0_made_80 : decode cX0_made 80 = .ok (.dup, 1) := dk_89 (dk_at dksX0_made_4 0 rfl rfl)
theorem dX0_made_81 : decode cX0_made 81 = .ok (.iload_n 1, 1) := dk_27 (dk_at dksX0_made_4 1 rfl rfl)
theorem dX0_made_82 : decode cX0_made 82 = .ok (.iload_n 2, 1) := dk_28 (dk_at dksX0_made_4 2 rfl rfl)
theorem dX0_made_83 : decode cX0_made 83 = .ok (.iload_n 3, 1) := dk_29 (dk_at dksX0_made_4 3 rfl rfl)
theorem dX0_made_84 : decode cX0_made 84 = .ok (.iload 4, 2) := dk_21 4 (dk_at dksX0_made_4 4 rfl rfl)
theorem dX0_made_86 : decode cX0_made 86 = .ok (.iload 5, 2) := dk_21 5 (dk_at dksX0_made_4 6 rfl rfl)
theorem dX0_made_88 : decode cX0_made 88 = .ok (.invokespecial 41, 3) := dk_183 0 41 (dk_at dksX0_made_4 8 rfl rfl)
theorem dX0_made_91 : decode cX0_made 91 = .ok (.areturn, 1) := dk_176 (dk_at dksX0_made_4 11 rfl rfl)
theorem dX0_made_92 : decode cX0_made 92 = .ok (.new 42, 3) := dk_187 0 42 (dk_at dksX0_made_4 12 rfl rfl)
theorem dX0_made_95 : decode cX0_made 95 = .ok (.dup, 1) := dk_89 (dk_at dksX0_made_4 15 rfl rfl)
theorem dX0_made_96 : decode cX0_made 96 = .ok (.iload_n 1, 1) := dk_27 (dk_at dksX0_made_4 16 rfl rfl)
theorem dX0_made_97 : decode cX0_made 97 = .ok (.iload_n 2, 1) := dk_28 (dk_at dksX0_made_4 17 rfl rfl)
theorem dX0_made_98 : decode cX0_made 98 = .ok (.iload_n 3, 1) := dk_29 (dk_at dksX0_made_4 18 rfl rfl)
theorem dX0_made_99 : decode cX0_made 99 = .ok (.iload 4, 2) := dk_21 4 (dk_at dksX0_made_4 19 rfl rfl)
theorem dX0_made_101 : decode cX0_made 101 = .ok (.iload 5, 2) := dk_21 5 (dk_at dksX0_made_4 21 rfl rfl)
theorem dX0_made_103 : decode cX0_made 103 = .ok (.invokespecial 44, 3) := dk_183 0 44 (dk_at dksX0_made_5 0 rfl rfl)
theorem dX0_made_106 : decode cX0_made 106 = .ok (.areturn, 1) := dk_176 (dk_at dksX0_made_5 3 rfl rfl)
abbrev cX0_stepOf : ByteArray := prog_1_method_10_code
def yX0_stepOf : MethodName := ⟨RX0, "stepOf", "(II)I"⟩
def dkwX0_stepOf_3 : List UInt8 := [172, 45, 180, 0, 82, 153, 0, 7, 4, 167, 0, 4, 3, 172, 2, 172]
abbrev dktX0_stepOf_3 : List UInt8 := dkwX0_stepOf_3 ++ []
def dkwX0_stepOf_2 : List UInt8 := [45, 180, 0, 64, 172, 45, 180, 0, 69, 172, 45, 182, 0, 72, 172, 45, 180, 0, 76, 172, 45, 180, 0, 79]
abbrev dktX0_stepOf_2 : List UInt8 := dkwX0_stepOf_2 ++ dktX0_stepOf_3
def dkwX0_stepOf_1 : List UInt8 := [170, 0, 0, 0, 0, 76, 0, 0, 0, 0, 0, 0, 0, 5, 0, 0, 0, 38, 0, 0, 0, 43, 0, 0, 0, 48, 0, 0, 0, 53, 0, 0, 0, 58, 0, 0, 0, 63]
abbrev dktX0_stepOf_1 : List UInt8 := dkwX0_stepOf_1 ++ dktX0_stepOf_2
def dkwX0_stepOf_0 : List UInt8 := [42, 27, 182, 0, 61, 154, 0, 5, 2, 172, 42, 180, 0, 53, 27, 50, 78, 28]
abbrev dktX0_stepOf_0 : List UInt8 := dkwX0_stepOf_0 ++ dktX0_stepOf_1
theorem dksX0_stepOf_0 : cX0_stepOf.data.toList.drop 0 = dktX0_stepOf_0 := by decide +kernel
theorem dksX0_stepOf_1 : cX0_stepOf.data.toList.drop 18 = dktX0_stepOf_1 := dk_seg dksX0_stepOf_0 18 rfl rfl
theorem dksX0_stepOf_2 : cX0_stepOf.data.toList.drop 56 = dktX0_stepOf_2 := dk_seg dksX0_stepOf_1 38 rfl rfl
theorem dksX0_stepOf_3 : cX0_stepOf.data.toList.drop 80 = dktX0_stepOf_3 := dk_seg dksX0_stepOf_2 24 rfl rfl
theorem dX0_stepOf_0 : decode cX0_stepOf 0 = .ok (.aload_n 0, 1) := dk_42 (dk_at dksX0_stepOf_0 0 rfl rfl)
theorem dX0_stepOf_1 : decode cX0_stepOf 1 = .ok (.iload_n 1, 1) := dk_27 (dk_at dksX0_stepOf_0 1 rfl rfl)
theorem dX0_stepOf_2 : decode cX0_stepOf 2 = .ok (.invokevirtual 61, 3) := dk_182 0 61 (dk_at dksX0_stepOf_0 2 rfl rfl)
theorem dX0_stepOf_5 : decode cX0_stepOf 5 = .ok (.ifCond .ne 5, 3) := dk_154 0 5 (dk_at dksX0_stepOf_0 5 rfl rfl)
theorem dX0_stepOf_8 : decode cX0_stepOf 8 = .ok (.iconst (-1), 1) := dk_2 (dk_at dksX0_stepOf_0 8 rfl rfl)
theorem dX0_stepOf_9 : decode cX0_stepOf 9 = .ok (.ireturn, 1) := dk_172 (dk_at dksX0_stepOf_0 9 rfl rfl)
theorem dX0_stepOf_10 : decode cX0_stepOf 10 = .ok (.aload_n 0, 1) := dk_42 (dk_at dksX0_stepOf_0 10 rfl rfl)
theorem dX0_stepOf_11 : decode cX0_stepOf 11 = .ok (.getfield 53, 3) := dk_180 0 53 (dk_at dksX0_stepOf_0 11 rfl rfl)
theorem dX0_stepOf_14 : decode cX0_stepOf 14 = .ok (.iload_n 1, 1) := dk_27 (dk_at dksX0_stepOf_0 14 rfl rfl)
theorem dX0_stepOf_15 : decode cX0_stepOf 15 = .ok (.aaload, 1) := dk_50 (dk_at dksX0_stepOf_0 15 rfl rfl)
theorem dX0_stepOf_16 : decode cX0_stepOf 16 = .ok (.astore_n 3, 1) := dk_78 (dk_at dksX0_stepOf_0 16 rfl rfl)
theorem dX0_stepOf_17 : decode cX0_stepOf 17 = .ok (.iload_n 2, 1) := dk_28 (dk_at dksX0_stepOf_0 17 rfl rfl)
theorem dX0_stepOf_18 : decode cX0_stepOf 18 = .ok (.tableswitch 76 0 5 #[38, 43, 48, 53, 58, 63], 38) := by decide +kernel
theorem dX0_stepOf_56 : decode cX0_stepOf 56 = .ok (.aload_n 3, 1) := dk_45 (dk_at dksX0_stepOf_2 0 rfl rfl)
theorem dX0_stepOf_57 : decode cX0_stepOf 57 = .ok (.getfield 64, 3) := dk_180 0 64 (dk_at dksX0_stepOf_2 1 rfl rfl)
theorem dX0_stepOf_60 : decode cX0_stepOf 60 = .ok (.ireturn, 1) := dk_172 (dk_at dksX0_stepOf_2 4 rfl rfl)
theorem dX0_stepOf_61 : decode cX0_stepOf 61 = .ok (.aload_n 3, 1) := dk_45 (dk_at dksX0_stepOf_2 5 rfl rfl)
theorem dX0_stepOf_62 : decode cX0_stepOf 62 = .ok (.getfield 69, 3) := dk_180 0 69 (dk_at dksX0_stepOf_2 6 rfl rfl)
theorem dX0_stepOf_65 : decode cX0_stepOf 65 = .ok (.ireturn, 1) := dk_172 (dk_at dksX0_stepOf_2 9 rfl rfl)
theorem dX0_stepOf_66 : decode cX0_stepOf 66 = .ok (.aload_n 3, 1) := dk_45 (dk_at dksX0_stepOf_2 10 rfl rfl)
theorem dX0_stepOf_67 : decode cX0_stepOf 67 = .ok (.invokevirtual 72, 3) := dk_182 0 72 (dk_at dksX0_stepOf_2 11 rfl rfl)
theorem dX0_stepOf_70 : decode cX0_stepOf 70 = .ok (.ireturn, 1) := dk_172 (dk_at dksX0_stepOf_2 14 rfl rfl)
theorem dX0_stepOf_71 : decode cX0_stepOf 71 = .ok (.aload_n 3, 1) := dk_45 (dk_at dksX0_stepOf_2 15 rfl rfl)
theorem dX0_stepOf_72 : decode cX0_stepOf 72 = .ok (.getfield 76, 3) := dk_180 0 76 (dk_at dksX0_stepOf_2 16 rfl rfl)
theorem dX0_stepOf_75 : decode cX0_stepOf 75 = .ok (.ireturn, 1) := dk_172 (dk_at dksX0_stepOf_2 19 rfl rfl)
theorem dX0_stepOf_76 : decode cX0_stepOf 76 = .ok (.aload_n 3, 1) := dk_45 (dk_at dksX0_stepOf_2 20 rfl rfl)
theorem dX0_stepOf_77 : decode cX0_stepOf 77 = .ok (.getfield 79, 3) := dk_180 0 79 (dk_at dksX0_stepOf_2 21 rfl rfl)
theorem dX0_stepOf_80 : decode cX0_stepOf 80 = .ok (.ireturn, 1) := dk_172 (dk_at dksX0_stepOf_3 0 rfl rfl)
theorem dX0_stepOf_81 : decode cX0_stepOf 81 = .ok (.aload_n 3, 1) := dk_45 (dk_at dksX0_stepOf_3 1 rfl rfl)
theorem dX0_stepOf_82 : decode cX0_stepOf 82 = .ok (.getfield 82, 3) := dk_180 0 82 (dk_at dksX0_stepOf_3 2 rfl rfl)
theorem dX0_stepOf_85 : decode cX0_stepOf 85 = .ok (.ifCond .eq 7, 3) := dk_153 0 7 (dk_at dksX0_stepOf_3 5 rfl rfl)
theorem dX0_stepOf_88 : decode cX0_stepOf 88 = .ok (.iconst 1, 1) := dk_4 (dk_at dksX0_stepOf_3 8 rfl rfl)
theorem dX0_stepOf_89 : decode cX0_stepOf 89 = .ok (.goto 4, 3) := dk_167 0 4 (dk_at dksX0_stepOf_3 9 rfl rfl)
theorem dX0_stepOf_92 : decode cX0_stepOf 92 = .ok (.iconst 0, 1) := dk_3 (dk_at dksX0_stepOf_3 12 rfl rfl)
theorem dX0_stepOf_93 : decode cX0_stepOf 93 = .ok (.ireturn, 1) := dk_172 (dk_at dksX0_stepOf_3 13 rfl rfl)
theorem dX0_stepOf_94 : decode cX0_stepOf 94 = .ok (.iconst (-1), 1) := dk_2 (dk_at dksX0_stepOf_3 14 rfl rfl)
theorem dX0_stepOf_95 : decode cX0_stepOf 95 = .ok (.ireturn, 1) := dk_172 (dk_at dksX0_stepOf_3 15 rfl rfl)
abbrev cX0_isStep : ByteArray := prog_1_method_3_code
def yX0_isStep : MethodName := ⟨RX0, "isStep", "(I)Z"⟩
def dkwX0_isStep_0 : List UInt8 := [27, 133, 9, 42, 180, 0, 13, 4, 100, 133, 184, 0, 9, 172]
abbrev dktX0_isStep_0 : List UInt8 := dkwX0_isStep_0 ++ []
theorem dksX0_isStep_0 : cX0_isStep.data.toList.drop 0 = dktX0_isStep_0 := by decide +kernel
theorem dX0_isStep_0 : decode cX0_isStep 0 = .ok (.iload_n 1, 1) := dk_27 (dk_at dksX0_isStep_0 0 rfl rfl)
theorem dX0_isStep_1 : decode cX0_isStep 1 = .ok (.i2l, 1) := dk_133 (dk_at dksX0_isStep_0 1 rfl rfl)
theorem dX0_isStep_2 : decode cX0_isStep 2 = .ok (.lconst 0, 1) := dk_9 (dk_at dksX0_isStep_0 2 rfl rfl)
theorem dX0_isStep_3 : decode cX0_isStep 3 = .ok (.aload_n 0, 1) := dk_42 (dk_at dksX0_isStep_0 3 rfl rfl)
theorem dX0_isStep_4 : decode cX0_isStep 4 = .ok (.getfield 13, 3) := dk_180 0 13 (dk_at dksX0_isStep_0 4 rfl rfl)
theorem dX0_isStep_7 : decode cX0_isStep 7 = .ok (.iconst 1, 1) := dk_4 (dk_at dksX0_isStep_0 7 rfl rfl)
theorem dX0_isStep_8 : decode cX0_isStep 8 = .ok (.isub, 1) := dk_100 (dk_at dksX0_isStep_0 8 rfl rfl)
theorem dX0_isStep_9 : decode cX0_isStep 9 = .ok (.i2l, 1) := dk_133 (dk_at dksX0_isStep_0 9 rfl rfl)
theorem dX0_isStep_10 : decode cX0_isStep 10 = .ok (.invokestatic 9, 3) := dk_184 0 9 (dk_at dksX0_isStep_0 10 rfl rfl)
theorem dX0_isStep_13 : decode cX0_isStep 13 = .ok (.ireturn, 1) := dk_172 (dk_at dksX0_isStep_0 13 rfl rfl)
abbrev cX0_route : ByteArray := prog_1_method_11_code
def yX0_route : MethodName := ⟨RX0, "route", "(I)I"⟩
def dkwX0_route_3 : List UInt8 := [181, 0, 16, 42, 180, 0, 16, 4, 100, 172]
abbrev dktX0_route_3 : List UInt8 := dkwX0_route_3 ++ []
def dkwX0_route_2 : List UInt8 := [180, 0, 95, 42, 180, 0, 53, 27, 50, 185, 0, 98, 2, 0, 87, 42, 89, 180, 0, 16, 4, 96]
abbrev dktX0_route_2 : List UInt8 := dkwX0_route_2 ++ dktX0_route_3
def dkwX0_route_1 : List UInt8 := [180, 0, 86, 42, 180, 0, 16, 187, 0, 90, 89, 183, 0, 92, 83, 42, 180, 0, 86, 42, 180, 0, 16, 50]
abbrev dktX0_route_1 : List UInt8 := dkwX0_route_1 ++ dktX0_route_2
def dkwX0_route_0 : List UInt8 := [42, 27, 182, 0, 61, 154, 0, 5, 2, 172, 42, 180, 0, 16, 16, 6, 160, 0, 6, 16, 253, 172, 42]
abbrev dktX0_route_0 : List UInt8 := dkwX0_route_0 ++ dktX0_route_1
theorem dksX0_route_0 : cX0_route.data.toList.drop 0 = dktX0_route_0 := by decide +kernel
theorem dksX0_route_1 : cX0_route.data.toList.drop 23 = dktX0_route_1 := dk_seg dksX0_route_0 23 rfl rfl
theorem dksX0_route_2 : cX0_route.data.toList.drop 47 = dktX0_route_2 := dk_seg dksX0_route_1 24 rfl rfl
theorem dksX0_route_3 : cX0_route.data.toList.drop 69 = dktX0_route_3 := dk_seg dksX0_route_2 22 rfl rfl
theorem dX0_route_0 : decode cX0_route 0 = .ok (.aload_n 0, 1) := dk_42 (dk_at dksX0_route_0 0 rfl rfl)
theorem dX0_route_1 : decode cX0_route 1 = .ok (.iload_n 1, 1) := dk_27 (dk_at dksX0_route_0 1 rfl rfl)
theorem dX0_route_2 : decode cX0_route 2 = .ok (.invokevirtual 61, 3) := dk_182 0 61 (dk_at dksX0_route_0 2 rfl rfl)
theorem dX0_route_5 : decode cX0_route 5 = .ok (.ifCond .ne 5, 3) := dk_154 0 5 (dk_at dksX0_route_0 5 rfl rfl)
theorem dX0_route_8 : decode cX0_route 8 = .ok (.iconst (-1), 1) := dk_2 (dk_at dksX0_route_0 8 rfl rfl)
theorem dX0_route_9 : decode cX0_route 9 = .ok (.ireturn, 1) := dk_172 (dk_at dksX0_route_0 9 rfl rfl)
theorem dX0_route_10 : decode cX0_route 10 = .ok (.aload_n 0, 1) := dk_42 (dk_at dksX0_route_0 10 rfl rfl)
theorem dX0_route_11 : decode cX0_route 11 = .ok (.getfield 16, 3) := dk_180 0 16 (dk_at dksX0_route_0 11 rfl rfl)
theorem dX0_route_14 : decode cX0_route 14 = .ok (.bipush 6, 2) := dk_16 6 (dk_at dksX0_route_0 14 rfl rfl)
theorem dX0_route_16 : decode cX0_route 16 = .ok (.if_icmp .ne 6, 3) := dk_160 0 6 (dk_at dksX0_route_0 16 rfl rfl)
theorem dX0_route_19 : decode cX0_route 19 = .ok (.bipush (-3), 2) := dk_16 253 (dk_at dksX0_route_0 19 rfl rfl)
theorem dX0_route_21 : decode cX0_route 21 = .ok (.ireturn, 1) := dk_172 (dk_at dksX0_route_0 21 rfl rfl)
theorem dX0_route_22 : decode cX0_route 22 = .ok (.aload_n 0, 1) := dk_42 (dk_at dksX0_route_0 22 rfl rfl)
theorem dX0_route_23 : decode cX0_route 23 = .ok (.getfield 86, 3) := dk_180 0 86 (dk_at dksX0_route_1 0 rfl rfl)
theorem dX0_route_26 : decode cX0_route 26 = .ok (.aload_n 0, 1) := dk_42 (dk_at dksX0_route_1 3 rfl rfl)
theorem dX0_route_27 : decode cX0_route 27 = .ok (.getfield 16, 3) := dk_180 0 16 (dk_at dksX0_route_1 4 rfl rfl)
theorem dX0_route_30 : decode cX0_route 30 = .ok (.new 90, 3) := dk_187 0 90 (dk_at dksX0_route_1 7 rfl rfl)
theorem dX0_route_33 : decode cX0_route 33 = .ok (.dup, 1) := dk_89 (dk_at dksX0_route_1 10 rfl rfl)
theorem dX0_route_34 : decode cX0_route 34 = .ok (.invokespecial 92, 3) := dk_183 0 92 (dk_at dksX0_route_1 11 rfl rfl)
theorem dX0_route_37 : decode cX0_route 37 = .ok (.aastore, 1) := dk_83 (dk_at dksX0_route_1 14 rfl rfl)
theorem dX0_route_38 : decode cX0_route 38 = .ok (.aload_n 0, 1) := dk_42 (dk_at dksX0_route_1 15 rfl rfl)
theorem dX0_route_39 : decode cX0_route 39 = .ok (.getfield 86, 3) := dk_180 0 86 (dk_at dksX0_route_1 16 rfl rfl)
theorem dX0_route_42 : decode cX0_route 42 = .ok (.aload_n 0, 1) := dk_42 (dk_at dksX0_route_1 19 rfl rfl)
theorem dX0_route_43 : decode cX0_route 43 = .ok (.getfield 16, 3) := dk_180 0 16 (dk_at dksX0_route_1 20 rfl rfl)
theorem dX0_route_46 : decode cX0_route 46 = .ok (.aaload, 1) := dk_50 (dk_at dksX0_route_1 23 rfl rfl)
theorem dX0_route_47 : decode cX0_route 47 = .ok (.getfield 95, 3) := dk_180 0 95 (dk_at dksX0_route_2 0 rfl rfl)
theorem dX0_route_50 : decode cX0_route 50 = .ok (.aload_n 0, 1) := dk_42 (dk_at dksX0_route_2 3 rfl rfl)
theorem dX0_route_51 : decode cX0_route 51 = .ok (.getfield 53, 3) := dk_180 0 53 (dk_at dksX0_route_2 4 rfl rfl)
theorem dX0_route_54 : decode cX0_route 54 = .ok (.iload_n 1, 1) := dk_27 (dk_at dksX0_route_2 7 rfl rfl)
theorem dX0_route_55 : decode cX0_route 55 = .ok (.aaload, 1) := dk_50 (dk_at dksX0_route_2 8 rfl rfl)
theorem dX0_route_56 : decode cX0_route 56 = .ok (.invokeinterface 98 2, 5) := by decide +kernel
theorem dX0_route_61 : decode cX0_route 61 = .ok (.pop, 1) := dk_87 (dk_at dksX0_route_2 14 rfl rfl)
theorem dX0_route_62 : decode cX0_route 62 = .ok (.aload_n 0, 1) := dk_42 (dk_at dksX0_route_2 15 rfl rfl)
theorem dX0_route_63 : decode cX0_route 63 = .ok (.dup, 1) := dk_89 (dk_at dksX0_route_2 16 rfl rfl)
theorem dX0_route_64 : decode cX0_route 64 = .ok (.getfield 16, 3) := dk_180 0 16 (dk_at dksX0_route_2 17 rfl rfl)
theorem dX0_route_67 : decode cX0_route 67 = .ok (.iconst 1, 1) := dk_4 (dk_at dksX0_route_2 20 rfl rfl)
theorem dX0_route_68 : decode cX0_route 68 = .ok (.iadd, 1) := dk_96 (dk_at dksX0_route_2 21 rfl rfl)
theorem dX0_route_69 : decode cX0_route 69 = .ok (.putfield 16, 3) := dk_181 0 16 (dk_at dksX0_route_3 0 rfl rfl)
theorem dX0_route_72 : decode cX0_route 72 = .ok (.aload_n 0, 1) := dk_42 (dk_at dksX0_route_3 3 rfl rfl)
theorem dX0_route_73 : decode cX0_route 73 = .ok (.getfield 16, 3) := dk_180 0 16 (dk_at dksX0_route_3 4 rfl rfl)
theorem dX0_route_76 : decode cX0_route 76 = .ok (.iconst 1, 1) := dk_4 (dk_at dksX0_route_3 7 rfl rfl)
theorem dX0_route_77 : decode cX0_route 77 = .ok (.isub, 1) := dk_100 (dk_at dksX0_route_3 8 rfl rfl)
theorem dX0_route_78 : decode cX0_route 78 = .ok (.ireturn, 1) := dk_172 (dk_at dksX0_route_3 9 rfl rfl)
abbrev cX0_on : ByteArray := prog_1_method_12_code
def yX0_on : MethodName := ⟨RX0, "on", "(II)I"⟩
def dkwX0_on_3 : List UInt8 := [185, 0, 98, 2, 0, 87, 45, 180, 0, 95, 185, 0, 110, 1, 0, 172]
abbrev dktX0_on_3 : List UInt8 := dkwX0_on_3 ++ []
def dkwX0_on_2 : List UInt8 := [185, 0, 110, 1, 0, 16, 6, 160, 0, 6, 16, 253, 172, 45, 180, 0, 95, 42, 180, 0, 53, 28, 50]
abbrev dktX0_on_2 : List UInt8 := dkwX0_on_2 ++ dktX0_on_3
def dkwX0_on_1 : List UInt8 := [78, 42, 180, 0, 53, 28, 50, 180, 0, 64, 45, 182, 0, 107, 159, 0, 6, 16, 254, 172, 45, 180, 0, 95]
abbrev dktX0_on_1 : List UInt8 := dkwX0_on_1 ++ dktX0_on_2
def dkwX0_on_0 : List UInt8 := [42, 27, 182, 0, 104, 153, 0, 11, 42, 28, 182, 0, 61, 154, 0, 5, 2, 172, 42, 180, 0, 86, 27, 50]
abbrev dktX0_on_0 : List UInt8 := dkwX0_on_0 ++ dktX0_on_1
theorem dksX0_on_0 : cX0_on.data.toList.drop 0 = dktX0_on_0 := by decide +kernel
theorem dksX0_on_1 : cX0_on.data.toList.drop 24 = dktX0_on_1 := dk_seg dksX0_on_0 24 rfl rfl
theorem dksX0_on_2 : cX0_on.data.toList.drop 48 = dktX0_on_2 := dk_seg dksX0_on_1 24 rfl rfl
theorem dksX0_on_3 : cX0_on.data.toList.drop 71 = dktX0_on_3 := dk_seg dksX0_on_2 23 rfl rfl
theorem dX0_on_0 : decode cX0_on 0 = .ok (.aload_n 0, 1) := dk_42 (dk_at dksX0_on_0 0 rfl rfl)
theorem dX0_on_1 : decode cX0_on 1 = .ok (.iload_n 1, 1) := dk_27 (dk_at dksX0_on_0 1 rfl rfl)
theorem dX0_on_2 : decode cX0_on 2 = .ok (.invokevirtual 104, 3) := dk_182 0 104 (dk_at dksX0_on_0 2 rfl rfl)
theorem dX0_on_5 : decode cX0_on 5 = .ok (.ifCond .eq 11, 3) := dk_153 0 11 (dk_at dksX0_on_0 5 rfl rfl)
theorem dX0_on_8 : decode cX0_on 8 = .ok (.aload_n 0, 1) := dk_42 (dk_at dksX0_on_0 8 rfl rfl)
theorem dX0_on_9 : decode cX0_on 9 = .ok (.iload_n 2, 1) := dk_28 (dk_at dksX0_on_0 9 rfl rfl)
theorem dX0_on_10 : decode cX0_on 10 = .ok (.invokevirtual 61, 3) := dk_182 0 61 (dk_at dksX0_on_0 10 rfl rfl)
theorem dX0_on_13 : decode cX0_on 13 = .ok (.ifCond .ne 5, 3) := dk_154 0 5 (dk_at dksX0_on_0 13 rfl rfl)
theorem dX0_on_16 : decode cX0_on 16 = .ok (.iconst (-1), 1) := dk_2 (dk_at dksX0_on_0 16 rfl rfl)
theorem dX0_on_17 : decode cX0_on 17 = .ok (.ireturn, 1) := dk_172 (dk_at dksX0_on_0 17 rfl rfl)
theorem dX0_on_18 : decode cX0_on 18 = .ok (.aload_n 0, 1) := dk_42 (dk_at dksX0_on_0 18 rfl rfl)
theorem dX0_on_19 : decode cX0_on 19 = .ok (.getfield 86, 3) := dk_180 0 86 (dk_at dksX0_on_0 19 rfl rfl)
theorem dX0_on_22 : decode cX0_on 22 = .ok (.iload_n 1, 1) := dk_27 (dk_at dksX0_on_0 22 rfl rfl)
theorem dX0_on_23 : decode cX0_on 23 = .ok (.aaload, 1) := dk_50 (dk_at dksX0_on_0 23 rfl rfl)
theorem dX0_on_24 : decode cX0_on 24 = .ok (.astore_n 3, 1) := dk_78 (dk_at dksX0_on_1 0 rfl rfl)
theorem dX0_on_25 : decode cX0_on 25 = .ok (.aload_n 0, 1) := dk_42 (dk_at dksX0_on_1 1 rfl rfl)
theorem dX0_on_26 : decode cX0_on 26 = .ok (.getfield 53, 3) := dk_180 0 53 (dk_at dksX0_on_1 2 rfl rfl)
theorem dX0_on_29 : decode cX0_on 29 = .ok (.iload_n 2, 1) := dk_28 (dk_at dksX0_on_1 5 rfl rfl)
theorem dX0_on_30 : decode cX0_on 30 = .ok (.aaload, 1) := dk_50 (dk_at dksX0_on_1 6 rfl rfl)
theorem dX0_on_31 : decode cX0_on 31 = .ok (.getfield 64, 3) := dk_180 0 64 (dk_at dksX0_on_1 7 rfl rfl)
theorem dX0_on_34 : decode cX0_on 34 = .ok (.aload_n 3, 1) := dk_45 (dk_at dksX0_on_1 10 rfl rfl)
theorem dX0_on_35 : decode cX0_on 35 = .ok (.invokevirtual 107, 3) := dk_182 0 107 (dk_at dksX0_on_1 11 rfl rfl)
theorem dX0_on_38 : decode cX0_on 38 = .ok (.if_icmp .eq 6, 3) := dk_159 0 6 (dk_at dksX0_on_1 14 rfl rfl)
theorem dX0_on_41 : decode cX0_on 41 = .ok (.bipush (-2), 2) := dk_16 254 (dk_at dksX0_on_1 17 rfl rfl)
theorem dX0_on_43 : decode cX0_on 43 = .ok (.ireturn, 1) := dk_172 (dk_at dksX0_on_1 19 rfl rfl)
theorem dX0_on_44 : decode cX0_on 44 = .ok (.aload_n 3, 1) := dk_45 (dk_at dksX0_on_1 20 rfl rfl)
theorem dX0_on_45 : decode cX0_on 45 = .ok (.getfield 95, 3) := dk_180 0 95 (dk_at dksX0_on_1 21 rfl rfl)
theorem dX0_on_48 : decode cX0_on 48 = .ok (.invokeinterface 110 1, 5) := by decide +kernel
theorem dX0_on_53 : decode cX0_on 53 = .ok (.bipush 6, 2) := dk_16 6 (dk_at dksX0_on_2 5 rfl rfl)
theorem dX0_on_55 : decode cX0_on 55 = .ok (.if_icmp .ne 6, 3) := dk_160 0 6 (dk_at dksX0_on_2 7 rfl rfl)
theorem dX0_on_58 : decode cX0_on 58 = .ok (.bipush (-3), 2) := dk_16 253 (dk_at dksX0_on_2 10 rfl rfl)
theorem dX0_on_60 : decode cX0_on 60 = .ok (.ireturn, 1) := dk_172 (dk_at dksX0_on_2 12 rfl rfl)
theorem dX0_on_61 : decode cX0_on 61 = .ok (.aload_n 3, 1) := dk_45 (dk_at dksX0_on_2 13 rfl rfl)
theorem dX0_on_62 : decode cX0_on 62 = .ok (.getfield 95, 3) := dk_180 0 95 (dk_at dksX0_on_2 14 rfl rfl)
theorem dX0_on_65 : decode cX0_on 65 = .ok (.aload_n 0, 1) := dk_42 (dk_at dksX0_on_2 17 rfl rfl)
theorem dX0_on_66 : decode cX0_on 66 = .ok (.getfield 53, 3) := dk_180 0 53 (dk_at dksX0_on_2 18 rfl rfl)
theorem dX0_on_69 : decode cX0_on 69 = .ok (.iload_n 2, 1) := dk_28 (dk_at dksX0_on_2 21 rfl rfl)
theorem dX0_on_70 : decode cX0_on 70 = .ok (.aaload, 1) := dk_50 (dk_at dksX0_on_2 22 rfl rfl)
theorem dX0_on_71 : decode cX0_on 71 = .ok (.invokeinterface 98 2, 5) := by decide +kernel
theorem dX0_on_76 : decode cX0_on 76 = .ok (.pop, 1) := dk_87 (dk_at dksX0_on_3 5 rfl rfl)
theorem dX0_on_77 : decode cX0_on 77 = .ok (.aload_n 3, 1) := dk_45 (dk_at dksX0_on_3 6 rfl rfl)
theorem dX0_on_78 : decode cX0_on 78 = .ok (.getfield 95, 3) := dk_180 0 95 (dk_at dksX0_on_3 7 rfl rfl)
theorem dX0_on_81 : decode cX0_on 81 = .ok (.invokeinterface 110 1, 5) := by decide +kernel
theorem dX0_on_86 : decode cX0_on 86 = .ok (.ireturn, 1) := dk_172 (dk_at dksX0_on_3 15 rfl rfl)
abbrev cX0_isRoute : ByteArray := prog_1_method_4_code
def yX0_isRoute : MethodName := ⟨RX0, "isRoute", "(I)Z"⟩
def dkwX0_isRoute_0 : List UInt8 := [27, 133, 9, 42, 180, 0, 16, 4, 100, 133, 184, 0, 9, 172]
abbrev dktX0_isRoute_0 : List UInt8 := dkwX0_isRoute_0 ++ []
theorem dksX0_isRoute_0 : cX0_isRoute.data.toList.drop 0 = dktX0_isRoute_0 := by decide +kernel
theorem dX0_isRoute_0 : decode cX0_isRoute 0 = .ok (.iload_n 1, 1) := dk_27 (dk_at dksX0_isRoute_0 0 rfl rfl)
theorem dX0_isRoute_1 : decode cX0_isRoute 1 = .ok (.i2l, 1) := dk_133 (dk_at dksX0_isRoute_0 1 rfl rfl)
theorem dX0_isRoute_2 : decode cX0_isRoute 2 = .ok (.lconst 0, 1) := dk_9 (dk_at dksX0_isRoute_0 2 rfl rfl)
theorem dX0_isRoute_3 : decode cX0_isRoute 3 = .ok (.aload_n 0, 1) := dk_42 (dk_at dksX0_isRoute_0 3 rfl rfl)
theorem dX0_isRoute_4 : decode cX0_isRoute 4 = .ok (.getfield 16, 3) := dk_180 0 16 (dk_at dksX0_isRoute_0 4 rfl rfl)
theorem dX0_isRoute_7 : decode cX0_isRoute 7 = .ok (.iconst 1, 1) := dk_4 (dk_at dksX0_isRoute_0 7 rfl rfl)
theorem dX0_isRoute_8 : decode cX0_isRoute 8 = .ok (.isub, 1) := dk_100 (dk_at dksX0_isRoute_0 8 rfl rfl)
theorem dX0_isRoute_9 : decode cX0_isRoute 9 = .ok (.i2l, 1) := dk_133 (dk_at dksX0_isRoute_0 9 rfl rfl)
theorem dX0_isRoute_10 : decode cX0_isRoute 10 = .ok (.invokestatic 9, 3) := dk_184 0 9 (dk_at dksX0_isRoute_0 10 rfl rfl)
theorem dX0_isRoute_13 : decode cX0_isRoute 13 = .ok (.ireturn, 1) := dk_172 (dk_at dksX0_isRoute_0 13 rfl rfl)
abbrev cX0_routeOf : ByteArray := prog_1_method_14_code
def yX0_routeOf : MethodName := ⟨RX0, "routeOf", "(II)I"⟩
def dkwX0_routeOf_5 : List UInt8 := [185, 0, 125, 2, 0, 192, 0, 65, 182, 0, 129, 167, 0, 4, 2, 172]
abbrev dktX0_routeOf_5 : List UInt8 := dkwX0_routeOf_5 ++ []
def dkwX0_routeOf_4 : List UInt8 := [185, 0, 110, 1, 0, 96, 133, 184, 0, 9, 153, 0, 26, 42, 45, 180, 0, 95, 28, 16, 10, 100]
abbrev dktX0_routeOf_4 : List UInt8 := dkwX0_routeOf_4 ++ dktX0_routeOf_5
def dkwX0_routeOf_3 : List UInt8 := [172, 45, 182, 0, 119, 172, 45, 182, 0, 121, 172, 28, 133, 20, 0, 123, 16, 9, 45, 180, 0, 95]
abbrev dktX0_routeOf_3 : List UInt8 := dkwX0_routeOf_3 ++ dktX0_routeOf_4
def dkwX0_routeOf_2 : List UInt8 := [45, 180, 0, 95, 185, 0, 110, 1, 0, 172, 45, 182, 0, 113, 172, 45, 182, 0, 107, 172, 45, 182, 0, 116]
abbrev dktX0_routeOf_2 : List UInt8 := dkwX0_routeOf_2 ++ dktX0_routeOf_3
def dkwX0_routeOf_1 : List UInt8 := [170, 0, 0, 0, 0, 73, 0, 0, 0, 0, 0, 0, 0, 5, 0, 0, 0, 38, 0, 0, 0, 48, 0, 0, 0, 53, 0, 0, 0, 58, 0, 0, 0, 63, 0, 0, 0, 68]
abbrev dktX0_routeOf_1 : List UInt8 := dkwX0_routeOf_1 ++ dktX0_routeOf_2
def dkwX0_routeOf_0 : List UInt8 := [42, 27, 182, 0, 104, 154, 0, 5, 2, 172, 42, 180, 0, 86, 27, 50, 78, 28]
abbrev dktX0_routeOf_0 : List UInt8 := dkwX0_routeOf_0 ++ dktX0_routeOf_1
theorem dksX0_routeOf_0 : cX0_routeOf.data.toList.drop 0 = dktX0_routeOf_0 := by decide +kernel
theorem dksX0_routeOf_1 : cX0_routeOf.data.toList.drop 18 = dktX0_routeOf_1 := dk_seg dksX0_routeOf_0 18 rfl rfl
theorem dksX0_routeOf_2 : cX0_routeOf.data.toList.drop 56 = dktX0_routeOf_2 := dk_seg dksX0_routeOf_1 38 rfl rfl
theorem dksX0_routeOf_3 : cX0_routeOf.data.toList.drop 80 = dktX0_routeOf_3 := dk_seg dksX0_routeOf_2 24 rfl rfl
theorem dksX0_routeOf_4 : cX0_routeOf.data.toList.drop 102 = dktX0_routeOf_4 := dk_seg dksX0_routeOf_3 22 rfl rfl
theorem dksX0_routeOf_5 : cX0_routeOf.data.toList.drop 124 = dktX0_routeOf_5 := dk_seg dksX0_routeOf_4 22 rfl rfl
theorem dX0_routeOf_0 : decode cX0_routeOf 0 = .ok (.aload_n 0, 1) := dk_42 (dk_at dksX0_routeOf_0 0 rfl rfl)
theorem dX0_routeOf_1 : decode cX0_routeOf 1 = .ok (.iload_n 1, 1) := dk_27 (dk_at dksX0_routeOf_0 1 rfl rfl)
theorem dX0_routeOf_2 : decode cX0_routeOf 2 = .ok (.invokevirtual 104, 3) := dk_182 0 104 (dk_at dksX0_routeOf_0 2 rfl rfl)
theorem dX0_routeOf_5 : decode cX0_routeOf 5 = .ok (.ifCond .ne 5, 3) := dk_154 0 5 (dk_at dksX0_routeOf_0 5 rfl rfl)
theorem dX0_routeOf_8 : decode cX0_routeOf 8 = .ok (.iconst (-1), 1) := dk_2 (dk_at dksX0_routeOf_0 8 rfl rfl)
theorem dX0_routeOf_9 : decode cX0_routeOf 9 = .ok (.ireturn, 1) := dk_172 (dk_at dksX0_routeOf_0 9 rfl rfl)
theorem dX0_routeOf_10 : decode cX0_routeOf 10 = .ok (.aload_n 0, 1) := dk_42 (dk_at dksX0_routeOf_0 10 rfl rfl)
theorem dX0_routeOf_11 : decode cX0_routeOf 11 = .ok (.getfield 86, 3) := dk_180 0 86 (dk_at dksX0_routeOf_0 11 rfl rfl)
theorem dX0_routeOf_14 : decode cX0_routeOf 14 = .ok (.iload_n 1, 1) := dk_27 (dk_at dksX0_routeOf_0 14 rfl rfl)
theorem dX0_routeOf_15 : decode cX0_routeOf 15 = .ok (.aaload, 1) := dk_50 (dk_at dksX0_routeOf_0 15 rfl rfl)
theorem dX0_routeOf_16 : decode cX0_routeOf 16 = .ok (.astore_n 3, 1) := dk_78 (dk_at dksX0_routeOf_0 16 rfl rfl)
theorem dX0_routeOf_17 : decode cX0_routeOf 17 = .ok (.iload_n 2, 1) := dk_28 (dk_at dksX0_routeOf_0 17 rfl rfl)
theorem dX0_routeOf_18 : decode cX0_routeOf 18 = .ok (.tableswitch 73 0 5 #[38, 48, 53, 58, 63, 68], 38) := by decide +kernel
theorem dX0_routeOf_56 : decode cX0_routeOf 56 = .ok (.aload_n 3, 1) := dk_45 (dk_at dksX0_routeOf_2 0 rfl rfl)
theorem dX0_routeOf_57 : decode cX0_routeOf 57 = .ok (.getfield 95, 3) := dk_180 0 95 (dk_at dksX0_routeOf_2 1 rfl rfl)
theorem dX0_routeOf_60 : decode cX0_routeOf 60 = .ok (.invokeinterface 110 1, 5) := by decide +kernel
theorem dX0_routeOf_65 : decode cX0_routeOf 65 = .ok (.ireturn, 1) := dk_172 (dk_at dksX0_routeOf_2 9 rfl rfl)
theorem dX0_routeOf_66 : decode cX0_routeOf 66 = .ok (.aload_n 3, 1) := dk_45 (dk_at dksX0_routeOf_2 10 rfl rfl)
theorem dX0_routeOf_67 : decode cX0_routeOf 67 = .ok (.invokevirtual 113, 3) := dk_182 0 113 (dk_at dksX0_routeOf_2 11 rfl rfl)
theorem dX0_routeOf_70 : decode cX0_routeOf 70 = .ok (.ireturn, 1) := dk_172 (dk_at dksX0_routeOf_2 14 rfl rfl)
theorem dX0_routeOf_71 : decode cX0_routeOf 71 = .ok (.aload_n 3, 1) := dk_45 (dk_at dksX0_routeOf_2 15 rfl rfl)
theorem dX0_routeOf_72 : decode cX0_routeOf 72 = .ok (.invokevirtual 107, 3) := dk_182 0 107 (dk_at dksX0_routeOf_2 16 rfl rfl)
theorem dX0_routeOf_75 : decode cX0_routeOf 75 = .ok (.ireturn, 1) := dk_172 (dk_at dksX0_routeOf_2 19 rfl rfl)
theorem dX0_routeOf_76 : decode cX0_routeOf 76 = .ok (.aload_n 3, 1) := dk_45 (dk_at dksX0_routeOf_2 20 rfl rfl)
theorem dX0_routeOf_77 : decode cX0_routeOf 77 = .ok (.invokevirtual 116, 3) := dk_182 0 116 (dk_at dksX0_routeOf_2 21 rfl rfl)
theorem dX0_routeOf_80 : decode cX0_routeOf 80 = .ok (.ireturn, 1) := dk_172 (dk_at dksX0_routeOf_3 0 rfl rfl)
theorem dX0_routeOf_81 : decode cX0_routeOf 81 = .ok (.aload_n 3, 1) := dk_45 (dk_at dksX0_routeOf_3 1 rfl rfl)
theorem dX0_routeOf_82 : decode cX0_routeOf 82 = .ok (.invokevirtual 119, 3) := dk_182 0 119 (dk_at dksX0_routeOf_3 2 rfl rfl)
theorem dX0_routeOf_85 : decode cX0_routeOf 85 = .ok (.ireturn, 1) := dk_172 (dk_at dksX0_routeOf_3 5 rfl rfl)
theorem dX0_routeOf_86 : decode cX0_routeOf 86 = .ok (.aload_n 3, 1) := dk_45 (dk_at dksX0_routeOf_3 6 rfl rfl)
theorem dX0_routeOf_87 : decode cX0_routeOf 87 = .ok (.invokevirtual 121, 3) := dk_182 0 121 (dk_at dksX0_routeOf_3 7 rfl rfl)
theorem dX0_routeOf_90 : decode cX0_routeOf 90 = .ok (.ireturn, 1) := dk_172 (dk_at dksX0_routeOf_3 10 rfl rfl)
theorem dX0_routeOf_91 : decode cX0_routeOf 91 = .ok (.iload_n 2, 1) := dk_28 (dk_at dksX0_routeOf_3 11 rfl rfl)
theorem dX0_routeOf_92 : decode cX0_routeOf 92 = .ok (.i2l, 1) := dk_133 (dk_at dksX0_routeOf_3 12 rfl rfl)
theorem dX0_routeOf_93 : decode cX0_routeOf 93 = .ok (.ldc2_w 123, 3) := dk_20 0 123 (dk_at dksX0_routeOf_3 13 rfl rfl)
theorem dX0_routeOf_96 : decode cX0_routeOf 96 = .ok (.bipush 9, 2) := dk_16 9 (dk_at dksX0_routeOf_3 16 rfl rfl)
theorem dX0_routeOf_98 : decode cX0_routeOf 98 = .ok (.aload_n 3, 1) := dk_45 (dk_at dksX0_routeOf_3 18 rfl rfl)
theorem dX0_routeOf_99 : decode cX0_routeOf 99 = .ok (.getfield 95, 3) := dk_180 0 95 (dk_at dksX0_routeOf_3 19 rfl rfl)
theorem dX0_routeOf_102 : decode cX0_routeOf 102 = .ok (.invokeinterface 110 1, 5) := by decide +kernel
theorem dX0_routeOf_107 : decode cX0_routeOf 107 = .ok (.iadd, 1) := dk_96 (dk_at dksX0_routeOf_4 5 rfl rfl)
theorem dX0_routeOf_108 : decode cX0_routeOf 108 = .ok (.i2l, 1) := dk_133 (dk_at dksX0_routeOf_4 6 rfl rfl)
theorem dX0_routeOf_109 : decode cX0_routeOf 109 = .ok (.invokestatic 9, 3) := dk_184 0 9 (dk_at dksX0_routeOf_4 7 rfl rfl)
theorem dX0_routeOf_112 : decode cX0_routeOf 112 = .ok (.ifCond .eq 26, 3) := dk_153 0 26 (dk_at dksX0_routeOf_4 10 rfl rfl)
theorem dX0_routeOf_115 : decode cX0_routeOf 115 = .ok (.aload_n 0, 1) := dk_42 (dk_at dksX0_routeOf_4 13 rfl rfl)
theorem dX0_routeOf_116 : decode cX0_routeOf 116 = .ok (.aload_n 3, 1) := dk_45 (dk_at dksX0_routeOf_4 14 rfl rfl)
theorem dX0_routeOf_117 : decode cX0_routeOf 117 = .ok (.getfield 95, 3) := dk_180 0 95 (dk_at dksX0_routeOf_4 15 rfl rfl)
theorem dX0_routeOf_120 : decode cX0_routeOf 120 = .ok (.iload_n 2, 1) := dk_28 (dk_at dksX0_routeOf_4 18 rfl rfl)
theorem dX0_routeOf_121 : decode cX0_routeOf 121 = .ok (.bipush 10, 2) := dk_16 10 (dk_at dksX0_routeOf_4 19 rfl rfl)
theorem dX0_routeOf_123 : decode cX0_routeOf 123 = .ok (.isub, 1) := dk_100 (dk_at dksX0_routeOf_4 21 rfl rfl)
theorem dX0_routeOf_124 : decode cX0_routeOf 124 = .ok (.invokeinterface 125 2, 5) := by decide +kernel
theorem dX0_routeOf_129 : decode cX0_routeOf 129 = .ok (.checkcast 65, 3) := dk_192 0 65 (dk_at dksX0_routeOf_5 5 rfl rfl)
theorem dX0_routeOf_132 : decode cX0_routeOf 132 = .ok (.invokevirtual 129, 3) := dk_182 0 129 (dk_at dksX0_routeOf_5 8 rfl rfl)
theorem dX0_routeOf_135 : decode cX0_routeOf 135 = .ok (.goto 4, 3) := dk_167 0 4 (dk_at dksX0_routeOf_5 11 rfl rfl)
theorem dX0_routeOf_138 : decode cX0_routeOf 138 = .ok (.iconst (-1), 1) := dk_2 (dk_at dksX0_routeOf_5 14 rfl rfl)
theorem dX0_routeOf_139 : decode cX0_routeOf 139 = .ok (.ireturn, 1) := dk_172 (dk_at dksX0_routeOf_5 15 rfl rfl)
abbrev cX0_numberOf : ByteArray := prog_1_method_13_code
def yX0_numberOf : MethodName := ⟨RX0, "numberOf", "(LValleyGuides$Step;)I"⟩
def dkwX0_numberOf_0 : List UInt8 := [3, 61, 42, 180, 0, 53, 28, 50, 43, 165, 0, 9, 132, 2, 1, 167, 255, 243, 28, 172]
abbrev dktX0_numberOf_0 : List UInt8 := dkwX0_numberOf_0 ++ []
theorem dksX0_numberOf_0 : cX0_numberOf.data.toList.drop 0 = dktX0_numberOf_0 := by decide +kernel
theorem dX0_numberOf_0 : decode cX0_numberOf 0 = .ok (.iconst 0, 1) := dk_3 (dk_at dksX0_numberOf_0 0 rfl rfl)
theorem dX0_numberOf_1 : decode cX0_numberOf 1 = .ok (.istore_n 2, 1) := dk_61 (dk_at dksX0_numberOf_0 1 rfl rfl)
theorem dX0_numberOf_2 : decode cX0_numberOf 2 = .ok (.aload_n 0, 1) := dk_42 (dk_at dksX0_numberOf_0 2 rfl rfl)
theorem dX0_numberOf_3 : decode cX0_numberOf 3 = .ok (.getfield 53, 3) := dk_180 0 53 (dk_at dksX0_numberOf_0 3 rfl rfl)
theorem dX0_numberOf_6 : decode cX0_numberOf 6 = .ok (.iload_n 2, 1) := dk_28 (dk_at dksX0_numberOf_0 6 rfl rfl)
theorem dX0_numberOf_7 : decode cX0_numberOf 7 = .ok (.aaload, 1) := dk_50 (dk_at dksX0_numberOf_0 7 rfl rfl)
theorem dX0_numberOf_8 : decode cX0_numberOf 8 = .ok (.aload_n 1, 1) := dk_43 (dk_at dksX0_numberOf_0 8 rfl rfl)
theorem dX0_numberOf_9 : decode cX0_numberOf 9 = .ok (.if_acmp .eq 9, 3) := dk_165 0 9 (dk_at dksX0_numberOf_0 9 rfl rfl)
theorem dX0_numberOf_12 : decode cX0_numberOf 12 = .ok (.iinc 2 1, 3) := dk_132 2 1 (dk_at dksX0_numberOf_0 12 rfl rfl)
theorem dX0_numberOf_15 : decode cX0_numberOf 15 = .ok (.goto (-13), 3) := dk_167 255 243 (dk_at dksX0_numberOf_0 15 rfl rfl)
theorem dX0_numberOf_18 : decode cX0_numberOf 18 = .ok (.iload_n 2, 1) := dk_28 (dk_at dksX0_numberOf_0 18 rfl rfl)
theorem dX0_numberOf_19 : decode cX0_numberOf 19 = .ok (.ireturn, 1) := dk_172 (dk_at dksX0_numberOf_0 19 rfl rfl)
abbrev cX0_init : ByteArray := prog_1_method_15_code
def yX0_init : MethodName := ⟨RX0, "<init>", "()V"⟩
def dkwX0_init_12 : List UInt8 := [181, 0, 227, 42, 187, 0, 231, 89, 183, 0, 233, 181, 0, 234, 177]
abbrev dktX0_init_12 : List UInt8 := dkwX0_init_12 ++ []
def dkwX0_init_11 : List UInt8 := [181, 0, 216, 42, 16, 14, 188, 10, 181, 0, 219, 42, 16, 14, 188, 10, 181, 0, 222, 42, 3, 189, 0, 225]
abbrev dktX0_init_11 : List UInt8 := dkwX0_init_11 ++ dktX0_init_12
def dkwX0_init_10 : List UInt8 := [181, 0, 207, 42, 16, 14, 188, 10, 181, 0, 210, 42, 16, 14, 188, 10, 181, 0, 213, 42, 16, 14, 188, 10]
abbrev dktX0_init_10 : List UInt8 := dkwX0_init_10 ++ dktX0_init_11
def dkwX0_init_9 : List UInt8 := [181, 0, 197, 42, 16, 12, 188, 10, 181, 0, 201, 42, 16, 12, 188, 10, 181, 0, 204, 42, 16, 12, 188, 10]
abbrev dktX0_init_9 : List UInt8 := dkwX0_init_9 ++ dktX0_init_10
def dkwX0_init_8 : List UInt8 := [16, 9, 197, 0, 143, 2, 181, 0, 189, 42, 17, 2, 0, 188, 10, 181, 0, 192, 42, 16, 8, 189, 0, 195]
abbrev dktX0_init_8 : List UInt8 := dkwX0_init_8 ++ dktX0_init_9
def dkwX0_init_7 : List UInt8 := [181, 0, 180, 42, 16, 8, 189, 0, 174, 181, 0, 183, 42, 16, 9, 188, 10, 181, 0, 186, 42, 16, 9]
abbrev dktX0_init_7 : List UInt8 := dkwX0_init_7 ++ dktX0_init_8
def dkwX0_init_6 : List UInt8 := [16, 9, 188, 10, 181, 0, 171, 42, 16, 8, 189, 0, 174, 181, 0, 176, 42, 187, 0, 165, 89, 183, 0, 167]
abbrev dktX0_init_6 : List UInt8 := dkwX0_init_6 ++ dktX0_init_7
def dkwX0_init_5 : List UInt8 := [181, 0, 157, 42, 17, 0, 240, 188, 8, 181, 0, 161, 42, 187, 0, 165, 89, 183, 0, 167, 181, 0, 168, 42]
abbrev dktX0_init_5 : List UInt8 := dkwX0_init_5 ++ dktX0_init_6
def dkwX0_init_4 : List UInt8 := [181, 0, 148, 42, 6, 188, 10, 181, 0, 151, 42, 16, 12, 188, 10, 181, 0, 154, 42, 16, 12, 188, 4]
abbrev dktX0_init_4 : List UInt8 := dkwX0_init_4 ++ dktX0_init_5
def dkwX0_init_3 : List UInt8 := [183, 0, 138, 83, 181, 0, 139, 42, 16, 24, 6, 197, 0, 143, 2, 181, 0, 145, 42, 6, 188, 10]
abbrev dktX0_init_3 : List UInt8 := dkwX0_init_3 ++ dktX0_init_4
def dkwX0_init_2 : List UInt8 := [187, 0, 136, 89, 183, 0, 138, 83, 89, 5, 187, 0, 136, 89, 183, 0, 138, 83, 89, 6, 187, 0, 136, 89]
abbrev dktX0_init_2 : List UInt8 := dkwX0_init_2 ++ dktX0_init_3
def dkwX0_init_1 : List UInt8 := [189, 0, 90, 181, 0, 86, 42, 7, 189, 0, 136, 89, 3, 187, 0, 136, 89, 183, 0, 138, 83, 89, 4]
abbrev dktX0_init_1 : List UInt8 := dkwX0_init_1 ++ dktX0_init_2
def dkwX0_init_0 : List UInt8 := [42, 183, 0, 133, 42, 16, 12, 188, 10, 181, 0, 23, 42, 16, 20, 189, 0, 65, 181, 0, 53, 42, 16, 6]
abbrev dktX0_init_0 : List UInt8 := dkwX0_init_0 ++ dktX0_init_1
theorem dksX0_init_0 : cX0_init.data.toList.drop 0 = dktX0_init_0 := by decide +kernel
theorem dksX0_init_1 : cX0_init.data.toList.drop 24 = dktX0_init_1 := dk_seg dksX0_init_0 24 rfl rfl
theorem dksX0_init_2 : cX0_init.data.toList.drop 47 = dktX0_init_2 := dk_seg dksX0_init_1 23 rfl rfl
theorem dksX0_init_3 : cX0_init.data.toList.drop 71 = dktX0_init_3 := dk_seg dksX0_init_2 24 rfl rfl
theorem dksX0_init_4 : cX0_init.data.toList.drop 93 = dktX0_init_4 := dk_seg dksX0_init_3 22 rfl rfl
theorem dksX0_init_5 : cX0_init.data.toList.drop 116 = dktX0_init_5 := dk_seg dksX0_init_4 23 rfl rfl
theorem dksX0_init_6 : cX0_init.data.toList.drop 140 = dktX0_init_6 := dk_seg dksX0_init_5 24 rfl rfl
theorem dksX0_init_7 : cX0_init.data.toList.drop 164 = dktX0_init_7 := dk_seg dksX0_init_6 24 rfl rfl
theorem dksX0_init_8 : cX0_init.data.toList.drop 187 = dktX0_init_8 := dk_seg dksX0_init_7 23 rfl rfl
theorem dksX0_init_9 : cX0_init.data.toList.drop 211 = dktX0_init_9 := dk_seg dksX0_init_8 24 rfl rfl
theorem dksX0_init_10 : cX0_init.data.toList.drop 235 = dktX0_init_10 := dk_seg dksX0_init_9 24 rfl rfl
theorem dksX0_init_11 : cX0_init.data.toList.drop 259 = dktX0_init_11 := dk_seg dksX0_init_10 24 rfl rfl
theorem dksX0_init_12 : cX0_init.data.toList.drop 283 = dktX0_init_12 := dk_seg dksX0_init_11 24 rfl rfl
theorem dX0_init_0 : decode cX0_init 0 = .ok (.aload_n 0, 1) := dk_42 (dk_at dksX0_init_0 0 rfl rfl)
theorem dX0_init_1 : decode cX0_init 1 = .ok (.invokespecial 133, 3) := dk_183 0 133 (dk_at dksX0_init_0 1 rfl rfl)
theorem dX0_init_4 : decode cX0_init 4 = .ok (.aload_n 0, 1) := dk_42 (dk_at dksX0_init_0 4 rfl rfl)
theorem dX0_init_5 : decode cX0_init 5 = .ok (.bipush 12, 2) := dk_16 12 (dk_at dksX0_init_0 5 rfl rfl)
theorem dX0_init_7 : decode cX0_init 7 = .ok (.newarray .int, 2) := dk_188_10 (dk_at dksX0_init_0 7 rfl rfl)
theorem dX0_init_9 : decode cX0_init 9 = .ok (.putfield 23, 3) := dk_181 0 23 (dk_at dksX0_init_0 9 rfl rfl)
theorem dX0_init_12 : decode cX0_init 12 = .ok (.aload_n 0, 1) := dk_42 (dk_at dksX0_init_0 12 rfl rfl)
theorem dX0_init_13 : decode cX0_init 13 = .ok (.bipush 20, 2) := dk_16 20 (dk_at dksX0_init_0 13 rfl rfl)
theorem dX0_init_15 : decode cX0_init 15 = .ok (.anewarray 65, 3) := dk_189 0 65 (dk_at dksX0_init_0 15 rfl rfl)
theorem dX0_init_18 : decode cX0_init 18 = .ok (.putfield 53, 3) := dk_181 0 53 (dk_at dksX0_init_0 18 rfl rfl)
theorem dX0_init_21 : decode cX0_init 21 = .ok (.aload_n 0, 1) := dk_42 (dk_at dksX0_init_0 21 rfl rfl)
theorem dX0_init_22 : decode cX0_init 22 = .ok (.bipush 6, 2) := dk_16 6 (dk_at dksX0_init_0 22 rfl rfl)
theorem dX0_init_24 : decode cX0_init 24 = .ok (.anewarray 90, 3) := dk_189 0 90 (dk_at dksX0_init_1 0 rfl rfl)
theorem dX0_init_27 : decode cX0_init 27 = .ok (.putfield 86, 3) := dk_181 0 86 (dk_at dksX0_init_1 3 rfl rfl)
theorem dX0_init_30 : decode cX0_init 30 = .ok (.aload_n 0, 1) := dk_42 (dk_at dksX0_init_1 6 rfl rfl)
theorem dX0_init_31 : decode cX0_init 31 = .ok (.iconst 4, 1) := dk_7 (dk_at dksX0_init_1 7 rfl rfl)
theorem dX0_init_32 : decode cX0_init 32 = .ok (.anewarray 136, 3) := dk_189 0 136 (dk_at dksX0_init_1 8 rfl rfl)
theorem dX0_init_35 : decode cX0_init 35 = .ok (.dup, 1) := dk_89 (dk_at dksX0_init_1 11 rfl rfl)
theorem dX0_init_36 : decode cX0_init 36 = .ok (.iconst 0, 1) := dk_3 (dk_at dksX0_init_1 12 rfl rfl)
theorem dX0_init_37 : decode cX0_init 37 = .ok (.new 136, 3) := dk_187 0 136 (dk_at dksX0_init_1 13 rfl rfl)
theorem dX0_init_40 : decode cX0_init 40 = .ok (.dup, 1) := dk_89 (dk_at dksX0_init_1 16 rfl rfl)
theorem dX0_init_41 : decode cX0_init 41 = .ok (.invokespecial 138, 3) := dk_183 0 138 (dk_at dksX0_init_1 17 rfl rfl)
theorem dX0_init_44 : decode cX0_init 44 = .ok (.aastore, 1) := dk_83 (dk_at dksX0_init_1 20 rfl rfl)
theorem dX0_init_45 : decode cX0_init 45 = .ok (.dup, 1) := dk_89 (dk_at dksX0_init_1 21 rfl rfl)
theorem dX0_init_46 : decode cX0_init 46 = .ok (.iconst 1, 1) := dk_4 (dk_at dksX0_init_1 22 rfl rfl)
theorem dX0_init_47 : decode cX0_init 47 = .ok (.new 136, 3) := dk_187 0 136 (dk_at dksX0_init_2 0 rfl rfl)
theorem dX0_init_50 : decode cX0_init 50 = .ok (.dup, 1) := dk_89 (dk_at dksX0_init_2 3 rfl rfl)
theorem dX0_init_51 : decode cX0_init 51 = .ok (.invokespecial 138, 3) := dk_183 0 138 (dk_at dksX0_init_2 4 rfl rfl)
theorem dX0_init_54 : decode cX0_init 54 = .ok (.aastore, 1) := dk_83 (dk_at dksX0_init_2 7 rfl rfl)
theorem dX0_init_55 : decode cX0_init 55 = .ok (.dup, 1) := dk_89 (dk_at dksX0_init_2 8 rfl rfl)
theorem dX0_init_56 : decode cX0_init 56 = .ok (.iconst 2, 1) := dk_5 (dk_at dksX0_init_2 9 rfl rfl)
theorem dX0_init_57 : decode cX0_init 57 = .ok (.new 136, 3) := dk_187 0 136 (dk_at dksX0_init_2 10 rfl rfl)
theorem dX0_init_60 : decode cX0_init 60 = .ok (.dup, 1) := dk_89 (dk_at dksX0_init_2 13 rfl rfl)
theorem dX0_init_61 : decode cX0_init 61 = .ok (.invokespecial 138, 3) := dk_183 0 138 (dk_at dksX0_init_2 14 rfl rfl)
theorem dX0_init_64 : decode cX0_init 64 = .ok (.aastore, 1) := dk_83 (dk_at dksX0_init_2 17 rfl rfl)
theorem dX0_init_65 : decode cX0_init 65 = .ok (.dup, 1) := dk_89 (dk_at dksX0_init_2 18 rfl rfl)
theorem dX0_init_66 : decode cX0_init 66 = .ok (.iconst 3, 1) := dk_6 (dk_at dksX0_init_2 19 rfl rfl)
theorem dX0_init_67 : decode cX0_init 67 = .ok (.new 136, 3) := dk_187 0 136 (dk_at dksX0_init_2 20 rfl rfl)
theorem dX0_init_70 : decode cX0_init 70 = .ok (.dup, 1) := dk_89 (dk_at dksX0_init_2 23 rfl rfl)
theorem dX0_init_71 : decode cX0_init 71 = .ok (.invokespecial 138, 3) := dk_183 0 138 (dk_at dksX0_init_3 0 rfl rfl)
theorem dX0_init_74 : decode cX0_init 74 = .ok (.aastore, 1) := dk_83 (dk_at dksX0_init_3 3 rfl rfl)
theorem dX0_init_75 : decode cX0_init 75 = .ok (.putfield 139, 3) := dk_181 0 139 (dk_at dksX0_init_3 4 rfl rfl)
theorem dX0_init_78 : decode cX0_init 78 = .ok (.aload_n 0, 1) := dk_42 (dk_at dksX0_init_3 7 rfl rfl)
theorem dX0_init_79 : decode cX0_init 79 = .ok (.bipush 24, 2) := dk_16 24 (dk_at dksX0_init_3 8 rfl rfl)
theorem dX0_init_81 : decode cX0_init 81 = .ok (.iconst 3, 1) := dk_6 (dk_at dksX0_init_3 10 rfl rfl)
theorem dX0_init_82 : decode cX0_init 82 = .ok (.multianewarray 143 2, 4) := by decide +kernel
theorem dX0_init_86 : decode cX0_init 86 = .ok (.putfield 145, 3) := dk_181 0 145 (dk_at dksX0_init_3 15 rfl rfl)
theorem dX0_init_89 : decode cX0_init 89 = .ok (.aload_n 0, 1) := dk_42 (dk_at dksX0_init_3 18 rfl rfl)
theorem dX0_init_90 : decode cX0_init 90 = .ok (.iconst 3, 1) := dk_6 (dk_at dksX0_init_3 19 rfl rfl)
theorem dX0_init_91 : decode cX0_init 91 = .ok (.newarray .int, 2) := dk_188_10 (dk_at dksX0_init_3 20 rfl rfl)
theorem dX0_init_93 : decode cX0_init 93 = .ok (.putfield 148, 3) := dk_181 0 148 (dk_at dksX0_init_4 0 rfl rfl)
theorem dX0_init_96 : decode cX0_init 96 = .ok (.aload_n 0, 1) := dk_42 (dk_at dksX0_init_4 3 rfl rfl)
theorem dX0_init_97 : decode cX0_init 97 = .ok (.iconst 3, 1) := dk_6 (dk_at dksX0_init_4 4 rfl rfl)
theorem dX0_init_98 : decode cX0_init 98 = .ok (.newarray .int, 2) := dk_188_10 (dk_at dksX0_init_4 5 rfl rfl)
theorem dX0_init_100 : decode cX0_init 100 = .ok (.putfield 151, 3) := dk_181 0 151 (dk_at dksX0_init_4 7 rfl rfl)
theorem dX0_init_103 : decode cX0_init 103 = .ok (.aload_n 0, 1) := dk_42 (dk_at dksX0_init_4 10 rfl rfl)
theorem dX0_init_104 : decode cX0_init 104 = .ok (.bipush 12, 2) := dk_16 12 (dk_at dksX0_init_4 11 rfl rfl)
theorem dX0_init_106 : decode cX0_init 106 = .ok (.newarray .int, 2) := dk_188_10 (dk_at dksX0_init_4 13 rfl rfl)
theorem dX0_init_108 : decode cX0_init 108 = .ok (.putfield 154, 3) := dk_181 0 154 (dk_at dksX0_init_4 15 rfl rfl)
theorem dX0_init_111 : decode cX0_init 111 = .ok (.aload_n 0, 1) := dk_42 (dk_at dksX0_init_4 18 rfl rfl)
theorem dX0_init_112 : decode cX0_init 112 = .ok (.bipush 12, 2) := dk_16 12 (dk_at dksX0_init_4 19 rfl rfl)
theorem dX0_init_114 : decode cX0_init 114 = .ok (.newarray .boolean, 2) := dk_188_4 (dk_at dksX0_init_4 21 rfl rfl)
theorem dX0_init_116 : decode cX0_init 116 = .ok (.putfield 157, 3) := dk_181 0 157 (dk_at dksX0_init_5 0 rfl rfl)
theorem dX0_init_119 : decode cX0_init 119 = .ok (.aload_n 0, 1) := dk_42 (dk_at dksX0_init_5 3 rfl rfl)
theorem dX0_init_120 : decode cX0_init 120 = .ok (.sipush 240, 3) := dk_17 0 240 (dk_at dksX0_init_5 4 rfl rfl)
theorem dX0_init_123 : decode cX0_init 123 = .ok (.newarray .byte, 2) := dk_188_8 (dk_at dksX0_init_5 7 rfl rfl)
theorem dX0_init_125 : decode cX0_init 125 = .ok (.putfield 161, 3) := dk_181 0 161 (dk_at dksX0_init_5 9 rfl rfl)
theorem dX0_init_128 : decode cX0_init 128 = .ok (.aload_n 0, 1) := dk_42 (dk_at dksX0_init_5 12 rfl rfl)
theorem dX0_init_129 : decode cX0_init 129 = .ok (.new 165, 3) := dk_187 0 165 (dk_at dksX0_init_5 13 rfl rfl)
theorem dX0_init_132 : decode cX0_init 132 = .ok (.dup, 1) := dk_89 (dk_at dksX0_init_5 16 rfl rfl)
theorem dX0_init_133 : decode cX0_init 133 = .ok (.invokespecial 167, 3) := dk_183 0 167 (dk_at dksX0_init_5 17 rfl rfl)
theorem dX0_init_136 : decode cX0_init 136 = .ok (.putfield 168, 3) := dk_181 0 168 (dk_at dksX0_init_5 20 rfl rfl)
theorem dX0_init_139 : decode cX0_init 139 = .ok (.aload_n 0, 1) := dk_42 (dk_at dksX0_init_5 23 rfl rfl)
theorem dX0_init_140 : decode cX0_init 140 = .ok (.bipush 9, 2) := dk_16 9 (dk_at dksX0_init_6 0 rfl rfl)
theorem dX0_init_142 : decode cX0_init 142 = .ok (.newarray .int, 2) := dk_188_10 (dk_at dksX0_init_6 2 rfl rfl)
theorem dX0_init_144 : decode cX0_init 144 = .ok (.putfield 171, 3) := dk_181 0 171 (dk_at dksX0_init_6 4 rfl rfl)
theorem dX0_init_147 : decode cX0_init 147 = .ok (.aload_n 0, 1) := dk_42 (dk_at dksX0_init_6 7 rfl rfl)
theorem dX0_init_148 : decode cX0_init 148 = .ok (.bipush 8, 2) := dk_16 8 (dk_at dksX0_init_6 8 rfl rfl)
theorem dX0_init_150 : decode cX0_init 150 = .ok (.anewarray 174, 3) := dk_189 0 174 (dk_at dksX0_init_6 10 rfl rfl)
theorem dX0_init_153 : decode cX0_init 153 = .ok (.putfield 176, 3) := dk_181 0 176 (dk_at dksX0_init_6 13 rfl rfl)
theorem dX0_init_156 : decode cX0_init 156 = .ok (.aload_n 0, 1) := dk_42 (dk_at dksX0_init_6 16 rfl rfl)
theorem dX0_init_157 : decode cX0_init 157 = .ok (.new 165, 3) := dk_187 0 165 (dk_at dksX0_init_6 17 rfl rfl)
theorem dX0_init_160 : decode cX0_init 160 = .ok (.dup, 1) := dk_89 (dk_at dksX0_init_6 20 rfl rfl)
theorem dX0_init_161 : decode cX0_init 161 = .ok (.invokespecial 167, 3) := dk_183 0 167 (dk_at dksX0_init_6 21 rfl rfl)
theorem dX0_init_164 : decode cX0_init 164 = .ok (.putfield 180, 3) := dk_181 0 180 (dk_at dksX0_init_7 0 rfl rfl)
theorem dX0_init_167 : decode cX0_init 167 = .ok (.aload_n 0, 1) := dk_42 (dk_at dksX0_init_7 3 rfl rfl)
theorem dX0_init_168 : decode cX0_init 168 = .ok (.bipush 8, 2) := dk_16 8 (dk_at dksX0_init_7 4 rfl rfl)
theorem dX0_init_170 : decode cX0_init 170 = .ok (.anewarray 174, 3) := dk_189 0 174 (dk_at dksX0_init_7 6 rfl rfl)
theorem dX0_init_173 : decode cX0_init 173 = .ok (.putfield 183, 3) := dk_181 0 183 (dk_at dksX0_init_7 9 rfl rfl)
theorem dX0_init_176 : decode cX0_init 176 = .ok (.aload_n 0, 1) := dk_42 (dk_at dksX0_init_7 12 rfl rfl)
theorem dX0_init_177 : decode cX0_init 177 = .ok (.bipush 9, 2) := dk_16 9 (dk_at dksX0_init_7 13 rfl rfl)
theorem dX0_init_179 : decode cX0_init 179 = .ok (.newarray .int, 2) := dk_188_10 (dk_at dksX0_init_7 15 rfl rfl)
theorem dX0_init_181 : decode cX0_init 181 = .ok (.putfield 186, 3) := dk_181 0 186 (dk_at dksX0_init_7 17 rfl rfl)
theorem dX0_init_184 : decode cX0_init 184 = .ok (.aload_n 0, 1) := dk_42 (dk_at dksX0_init_7 20 rfl rfl)
theorem dX0_init_185 : decode cX0_init 185 = .ok (.bipush 9, 2) := dk_16 9 (dk_at dksX0_init_7 21 rfl rfl)
theorem dX0_init_187 : decode cX0_init 187 = .ok (.bipush 9, 2) := dk_16 9 (dk_at dksX0_init_8 0 rfl rfl)
theorem dX0_init_189 : decode cX0_init 189 = .ok (.multianewarray 143 2, 4) := by decide +kernel
theorem dX0_init_193 : decode cX0_init 193 = .ok (.putfield 189, 3) := dk_181 0 189 (dk_at dksX0_init_8 6 rfl rfl)
theorem dX0_init_196 : decode cX0_init 196 = .ok (.aload_n 0, 1) := dk_42 (dk_at dksX0_init_8 9 rfl rfl)
theorem dX0_init_197 : decode cX0_init 197 = .ok (.sipush 512, 3) := dk_17 2 0 (dk_at dksX0_init_8 10 rfl rfl)
theorem dX0_init_200 : decode cX0_init 200 = .ok (.newarray .int, 2) := dk_188_10 (dk_at dksX0_init_8 13 rfl rfl)
theorem dX0_init_202 : decode cX0_init 202 = .ok (.putfield 192, 3) := dk_181 0 192 (dk_at dksX0_init_8 15 rfl rfl)
theorem dX0_init_205 : decode cX0_init 205 = .ok (.aload_n 0, 1) := dk_42 (dk_at dksX0_init_8 18 rfl rfl)
theorem dX0_init_206 : decode cX0_init 206 = .ok (.bipush 8, 2) := dk_16 8 (dk_at dksX0_init_8 19 rfl rfl)
theorem dX0_init_208 : decode cX0_init 208 = .ok (.anewarray 195, 3) := dk_189 0 195 (dk_at dksX0_init_8 21 rfl rfl)
theorem dX0_init_211 : decode cX0_init 211 = .ok (.putfield 197, 3) := dk_181 0 197 (dk_at dksX0_init_9 0 rfl rfl)
theorem dX0_init_214 : decode cX0_init 214 = .ok (.aload_n 0, 1) := dk_42 (dk_at dksX0_init_9 3 rfl rfl)
theorem dX0_init_215 : decode cX0_init 215 = .ok (.bipush 12, 2) := dk_16 12 (dk_at dksX0_init_9 4 rfl rfl)
theorem dX0_init_217 : decode cX0_init 217 = .ok (.newarray .int, 2) := dk_188_10 (dk_at dksX0_init_9 6 rfl rfl)
theorem dX0_init_219 : decode cX0_init 219 = .ok (.putfield 201, 3) := dk_181 0 201 (dk_at dksX0_init_9 8 rfl rfl)
theorem dX0_init_222 : decode cX0_init 222 = .ok (.aload_n 0, 1) := dk_42 (dk_at dksX0_init_9 11 rfl rfl)
theorem dX0_init_223 : decode cX0_init 223 = .ok (.bipush 12, 2) := dk_16 12 (dk_at dksX0_init_9 12 rfl rfl)
theorem dX0_init_225 : decode cX0_init 225 = .ok (.newarray .int, 2) := dk_188_10 (dk_at dksX0_init_9 14 rfl rfl)
theorem dX0_init_227 : decode cX0_init 227 = .ok (.putfield 204, 3) := dk_181 0 204 (dk_at dksX0_init_9 16 rfl rfl)
theorem dX0_init_230 : decode cX0_init 230 = .ok (.aload_n 0, 1) := dk_42 (dk_at dksX0_init_9 19 rfl rfl)
theorem dX0_init_231 : decode cX0_init 231 = .ok (.bipush 12, 2) := dk_16 12 (dk_at dksX0_init_9 20 rfl rfl)
theorem dX0_init_233 : decode cX0_init 233 = .ok (.newarray .int, 2) := dk_188_10 (dk_at dksX0_init_9 22 rfl rfl)
theorem dX0_init_235 : decode cX0_init 235 = .ok (.putfield 207, 3) := dk_181 0 207 (dk_at dksX0_init_10 0 rfl rfl)
theorem dX0_init_238 : decode cX0_init 238 = .ok (.aload_n 0, 1) := dk_42 (dk_at dksX0_init_10 3 rfl rfl)
theorem dX0_init_239 : decode cX0_init 239 = .ok (.bipush 14, 2) := dk_16 14 (dk_at dksX0_init_10 4 rfl rfl)
theorem dX0_init_241 : decode cX0_init 241 = .ok (.newarray .int, 2) := dk_188_10 (dk_at dksX0_init_10 6 rfl rfl)
theorem dX0_init_243 : decode cX0_init 243 = .ok (.putfield 210, 3) := dk_181 0 210 (dk_at dksX0_init_10 8 rfl rfl)
theorem dX0_init_246 : decode cX0_init 246 = .ok (.aload_n 0, 1) := dk_42 (dk_at dksX0_init_10 11 rfl rfl)
theorem dX0_init_247 : decode cX0_init 247 = .ok (.bipush 14, 2) := dk_16 14 (dk_at dksX0_init_10 12 rfl rfl)
theorem dX0_init_249 : decode cX0_init 249 = .ok (.newarray .int, 2) := dk_188_10 (dk_at dksX0_init_10 14 rfl rfl)
theorem dX0_init_251 : decode cX0_init 251 = .ok (.putfield 213, 3) := dk_181 0 213 (dk_at dksX0_init_10 16 rfl rfl)
theorem dX0_init_254 : decode cX0_init 254 = .ok (.aload_n 0, 1) := dk_42 (dk_at dksX0_init_10 19 rfl rfl)
theorem dX0_init_255 : decode cX0_init 255 = .ok (.bipush 14, 2) := dk_16 14 (dk_at dksX0_init_10 20 rfl rfl)
theorem dX0_init_257 : decode cX0_init 257 = .ok (.newarray .int, 2) := dk_188_10 (dk_at dksX0_init_10 22 rfl rfl)
theorem dX0_init_259 : decode cX0_init 259 = .ok (.putfield 216, 3) := dk_181 0 216 (dk_at dksX0_init_11 0 rfl rfl)
theorem dX0_init_262 : decode cX0_init 262 = .ok (.aload_n 0, 1) := dk_42 (dk_at dksX0_init_11 3 rfl rfl)
theorem dX0_init_263 : decode cX0_init 263 = .ok (.bipush 14, 2) := dk_16 14 (dk_at dksX0_init_11 4 rfl rfl)
theorem dX0_init_265 : decode cX0_init 265 = .ok (.newarray .int, 2) := dk_188_10 (dk_at dksX0_init_11 6 rfl rfl)
theorem dX0_init_267 : decode cX0_init 267 = .ok (.putfield 219, 3) := dk_181 0 219 (dk_at dksX0_init_11 8 rfl rfl)
theorem dX0_init_270 : decode cX0_init 270 = .ok (.aload_n 0, 1) := dk_42 (dk_at dksX0_init_11 11 rfl rfl)
theorem dX0_init_271 : decode cX0_init 271 = .ok (.bipush 14, 2) := dk_16 14 (dk_at dksX0_init_11 12 rfl rfl)
theorem dX0_init_273 : decode cX0_init 273 = .ok (.newarray .int, 2) := dk_188_10 (dk_at dksX0_init_11 14 rfl rfl)
theorem dX0_init_275 : decode cX0_init 275 = .ok (.putfield 222, 3) := dk_181 0 222 (dk_at dksX0_init_11 16 rfl rfl)
theorem dX0_init_278 : decode cX0_init 278 = .ok (.aload_n 0, 1) := dk_42 (dk_at dksX0_init_11 19 rfl rfl)
theorem dX0_init_279 : decode cX0_init 279 = .ok (.iconst 0, 1) := dk_3 (dk_at dksX0_init_11 20 rfl rfl)
theorem dX0_init_280 : decode cX0_init 280 = .ok (.anewarray 225, 3) := dk_189 0 225 (dk_at dksX0_init_11 21 rfl rfl)
theorem dX0_init_283 : decode cX0_init 283 = .ok (.putfield 227, 3) := dk_181 0 227 (dk_at dksX0_init_12 0 rfl rfl)
theorem dX0_init_286 : decode cX0_init 286 = .ok (.aload_n 0, 1) := dk_42 (dk_at dksX0_init_12 3 rfl rfl)
theorem dX0_init_287 : decode cX0_init 287 = .ok (.new 231, 3) := dk_187 0 231 (dk_at dksX0_init_12 4 rfl rfl)
theorem dX0_init_290 : decode cX0_init 290 = .ok (.dup, 1) := dk_89 (dk_at dksX0_init_12 7 rfl rfl)
theorem dX0_init_291 : decode cX0_init 291 = .ok (.invokespecial 233, 3) := dk_183 0 233 (dk_at dksX0_init_12 8 rfl rfl)
theorem dX0_init_294 : decode cX0_init 294 = .ok (.putfield 234, 3) := dk_181 0 234 (dk_at dksX0_init_12 11 rfl rfl)
theorem dX0_init_297 : decode cX0_init 297 = .ok (.return_, 1) := dk_177 (dk_at dksX0_init_12 14 rfl rfl)
abbrev cX0_sheet : ByteArray := prog_1_method_17_code
def yX0_sheet : MethodName := ⟨RX0, "sheet", "(III)I"⟩
def dkwX0_sheet_2 : List UInt8 := [58, 4, 16, 242, 172]
abbrev dktX0_sheet_2 : List UInt8 := dkwX0_sheet_2 ++ []
def dkwX0_sheet_1 : List UInt8 := [29, 16, 24, 164, 0, 5, 2, 172, 42, 180, 0, 139, 27, 50, 28, 29, 184, 0, 242, 181, 0, 246, 4, 172]
abbrev dktX0_sheet_1 : List UInt8 := dkwX0_sheet_1 ++ dktX0_sheet_2
def dkwX0_sheet_0 : List UInt8 := [27, 133, 9, 20, 0, 238, 184, 0, 9, 153, 0, 21, 28, 133, 9, 20, 0, 240, 184, 0, 9, 153, 0, 9]
abbrev dktX0_sheet_0 : List UInt8 := dkwX0_sheet_0 ++ dktX0_sheet_1
theorem dksX0_sheet_0 : cX0_sheet.data.toList.drop 0 = dktX0_sheet_0 := by decide +kernel
theorem dksX0_sheet_1 : cX0_sheet.data.toList.drop 24 = dktX0_sheet_1 := dk_seg dksX0_sheet_0 24 rfl rfl
theorem dksX0_sheet_2 : cX0_sheet.data.toList.drop 48 = dktX0_sheet_2 := dk_seg dksX0_sheet_1 24 rfl rfl
theorem dX0_sheet_0 : decode cX0_sheet 0 = .ok (.iload_n 1, 1) := dk_27 (dk_at dksX0_sheet_0 0 rfl rfl)
theorem dX0_sheet_1 : decode cX0_sheet 1 = .ok (.i2l, 1) := dk_133 (dk_at dksX0_sheet_0 1 rfl rfl)
theorem dX0_sheet_2 : decode cX0_sheet 2 = .ok (.lconst 0, 1) := dk_9 (dk_at dksX0_sheet_0 2 rfl rfl)
theorem dX0_sheet_3 : decode cX0_sheet 3 = .ok (.ldc2_w 238, 3) := dk_20 0 238 (dk_at dksX0_sheet_0 3 rfl rfl)
theorem dX0_sheet_6 : decode cX0_sheet 6 = .ok (.invokestatic 9, 3) := dk_184 0 9 (dk_at dksX0_sheet_0 6 rfl rfl)
theorem dX0_sheet_9 : decode cX0_sheet 9 = .ok (.ifCond .eq 21, 3) := dk_153 0 21 (dk_at dksX0_sheet_0 9 rfl rfl)
theorem dX0_sheet_12 : decode cX0_sheet 12 = .ok (.iload_n 2, 1) := dk_28 (dk_at dksX0_sheet_0 12 rfl rfl)
theorem dX0_sheet_13 : decode cX0_sheet 13 = .ok (.i2l, 1) := dk_133 (dk_at dksX0_sheet_0 13 rfl rfl)
theorem dX0_sheet_14 : decode cX0_sheet 14 = .ok (.lconst 0, 1) := dk_9 (dk_at dksX0_sheet_0 14 rfl rfl)
theorem dX0_sheet_15 : decode cX0_sheet 15 = .ok (.ldc2_w 240, 3) := dk_20 0 240 (dk_at dksX0_sheet_0 15 rfl rfl)
theorem dX0_sheet_18 : decode cX0_sheet 18 = .ok (.invokestatic 9, 3) := dk_184 0 9 (dk_at dksX0_sheet_0 18 rfl rfl)
theorem dX0_sheet_21 : decode cX0_sheet 21 = .ok (.ifCond .eq 9, 3) := dk_153 0 9 (dk_at dksX0_sheet_0 21 rfl rfl)
theorem dX0_sheet_24 : decode cX0_sheet 24 = .ok (.iload_n 3, 1) := dk_29 (dk_at dksX0_sheet_1 0 rfl rfl)
theorem dX0_sheet_25 : decode cX0_sheet 25 = .ok (.bipush 24, 2) := dk_16 24 (dk_at dksX0_sheet_1 1 rfl rfl)
theorem dX0_sheet_27 : decode cX0_sheet 27 = .ok (.if_icmp .le 5, 3) := dk_164 0 5 (dk_at dksX0_sheet_1 3 rfl rfl)
theorem dX0_sheet_30 : decode cX0_sheet 30 = .ok (.iconst (-1), 1) := dk_2 (dk_at dksX0_sheet_1 6 rfl rfl)
theorem dX0_sheet_31 : decode cX0_sheet 31 = .ok (.ireturn, 1) := dk_172 (dk_at dksX0_sheet_1 7 rfl rfl)
theorem dX0_sheet_32 : decode cX0_sheet 32 = .ok (.aload_n 0, 1) := dk_42 (dk_at dksX0_sheet_1 8 rfl rfl)
theorem dX0_sheet_33 : decode cX0_sheet 33 = .ok (.getfield 139, 3) := dk_180 0 139 (dk_at dksX0_sheet_1 9 rfl rfl)
theorem dX0_sheet_36 : decode cX0_sheet 36 = .ok (.iload_n 1, 1) := dk_27 (dk_at dksX0_sheet_1 12 rfl rfl)
theorem dX0_sheet_37 : decode cX0_sheet 37 = .ok (.aaload, 1) := dk_50 (dk_at dksX0_sheet_1 13 rfl rfl)
theorem dX0_sheet_38 : decode cX0_sheet 38 = .ok (.iload_n 2, 1) := dk_28 (dk_at dksX0_sheet_1 14 rfl rfl)
theorem dX0_sheet_39 : decode cX0_sheet 39 = .ok (.iload_n 3, 1) := dk_29 (dk_at dksX0_sheet_1 15 rfl rfl)
theorem dX0_sheet_40 : decode cX0_sheet 40 = .ok (.invokestatic 242, 3) := dk_184 0 242 (dk_at dksX0_sheet_1 16 rfl rfl)
theorem dX0_sheet_43 : decode cX0_sheet 43 = .ok (.putfield 246, 3) := dk_181 0 246 (dk_at dksX0_sheet_1 19 rfl rfl)
theorem dX0_sheet_46 : decode cX0_sheet 46 = .ok (.iconst 1, 1) := dk_4 (dk_at dksX0_sheet_1 22 rfl rfl)
theorem dX0_sheet_47 : decode cX0_sheet 47 = .ok (.ireturn, 1) := dk_172 (dk_at dksX0_sheet_1 23 rfl rfl)
theorem dX0_sheet_48 : decode cX0_sheet 48 = .ok (.astore 4, 2) := dk_58 4 (dk_at dksX0_sheet_2 0 rfl rfl)
theorem dX0_sheet_50 : decode cX0_sheet 50 = .ok (.bipush (-14), 2) := dk_16 242 (dk_at dksX0_sheet_2 2 rfl rfl)
theorem dX0_sheet_52 : decode cX0_sheet 52 = .ok (.ireturn, 1) := dk_172 (dk_at dksX0_sheet_2 4 rfl rfl)
abbrev cX0_newRow : ByteArray := prog_1_method_16_code
def yX0_newRow : MethodName := ⟨RX0, "newRow", "(II)Ljava/lang/Object;"⟩
def dkwX0_newRow_2 : List UInt8 := [27, 188, 6, 176, 27, 188, 9, 176, 27, 188, 8, 176]
abbrev dktX0_newRow_2 : List UInt8 := dkwX0_newRow_2 ++ []
def dkwX0_newRow_1 : List UInt8 := [171, 0, 0, 0, 0, 0, 35, 0, 0, 0, 2, 0, 0, 0, 0, 0, 0, 0, 27, 0, 0, 0, 1, 0, 0, 0, 31]
abbrev dktX0_newRow_1 : List UInt8 := dkwX0_newRow_1 ++ dktX0_newRow_2
def dkwX0_newRow_0 : List UInt8 := [26]
abbrev dktX0_newRow_0 : List UInt8 := dkwX0_newRow_0 ++ dktX0_newRow_1
theorem dksX0_newRow_0 : cX0_newRow.data.toList.drop 0 = dktX0_newRow_0 := by decide +kernel
theorem dksX0_newRow_1 : cX0_newRow.data.toList.drop 1 = dktX0_newRow_1 := dk_seg dksX0_newRow_0 1 rfl rfl
theorem dksX0_newRow_2 : cX0_newRow.data.toList.drop 28 = dktX0_newRow_2 := dk_seg dksX0_newRow_1 27 rfl rfl
theorem dX0_newRow_0 : decode cX0_newRow 0 = .ok (.iload_n 0, 1) := dk_26 (dk_at dksX0_newRow_0 0 rfl rfl)
theorem dX0_newRow_1 : decode cX0_newRow 1 = .ok (.lookupswitch 35 #[(0, 27), (1, 31)], 27) := by decide +kernel
theorem dX0_newRow_28 : decode cX0_newRow 28 = .ok (.iload_n 1, 1) := dk_27 (dk_at dksX0_newRow_2 0 rfl rfl)
theorem dX0_newRow_29 : decode cX0_newRow 29 = .ok (.newarray .float, 2) := dk_188_6 (dk_at dksX0_newRow_2 1 rfl rfl)
theorem dX0_newRow_31 : decode cX0_newRow 31 = .ok (.areturn, 1) := dk_176 (dk_at dksX0_newRow_2 3 rfl rfl)
theorem dX0_newRow_32 : decode cX0_newRow 32 = .ok (.iload_n 1, 1) := dk_27 (dk_at dksX0_newRow_2 4 rfl rfl)
theorem dX0_newRow_33 : decode cX0_newRow 33 = .ok (.newarray .short, 2) := dk_188_9 (dk_at dksX0_newRow_2 5 rfl rfl)
theorem dX0_newRow_35 : decode cX0_newRow 35 = .ok (.areturn, 1) := dk_176 (dk_at dksX0_newRow_2 7 rfl rfl)
theorem dX0_newRow_36 : decode cX0_newRow 36 = .ok (.iload_n 1, 1) := dk_27 (dk_at dksX0_newRow_2 8 rfl rfl)
theorem dX0_newRow_37 : decode cX0_newRow 37 = .ok (.newarray .byte, 2) := dk_188_8 (dk_at dksX0_newRow_2 9 rfl rfl)
theorem dX0_newRow_39 : decode cX0_newRow 39 = .ok (.areturn, 1) := dk_176 (dk_at dksX0_newRow_2 11 rfl rfl)
abbrev cX0_lay : ByteArray := prog_1_method_18_code
def yX0_lay : MethodName := ⟨RX0, "lay", "(III)I"⟩
def dkwX0_lay_4 : List UInt8 := [58, 5, 16, 245, 172, 58, 5, 16, 244, 172]
abbrev dktX0_lay_4 : List UInt8 := dkwX0_lay_4 ++ []
def dkwX0_lay_3 : List UInt8 := [25, 4, 192, 1, 3, 28, 29, 147, 86, 167, 0, 12, 25, 4, 192, 1, 5, 28, 29, 145, 84, 4, 172]
abbrev dktX0_lay_3 : List UInt8 := dkwX0_lay_3 ++ dktX0_lay_4
def dkwX0_lay_2 : List UInt8 := [19, 1, 1, 167, 0, 9, 29, 134, 19, 1, 2, 110, 81, 167, 0, 32, 25, 4, 193, 1, 3, 153, 0, 15]
abbrev dktX0_lay_2 : List UInt8 := dkwX0_lay_2 ++ dktX0_lay_3
def dkwX0_lay_1 : List UInt8 := [58, 4, 25, 4, 193, 0, 252, 153, 0, 31, 25, 4, 192, 0, 252, 28, 29, 18, 254, 160, 0, 9]
abbrev dktX0_lay_1 : List UInt8 := dkwX0_lay_1 ++ dktX0_lay_2
def dkwX0_lay_0 : List UInt8 := [27, 133, 9, 20, 0, 238, 184, 0, 9, 154, 0, 5, 2, 172, 42, 180, 0, 139, 27, 50, 180, 0, 246]
abbrev dktX0_lay_0 : List UInt8 := dkwX0_lay_0 ++ dktX0_lay_1
theorem dksX0_lay_0 : cX0_lay.data.toList.drop 0 = dktX0_lay_0 := by decide +kernel
theorem dksX0_lay_1 : cX0_lay.data.toList.drop 23 = dktX0_lay_1 := dk_seg dksX0_lay_0 23 rfl rfl
theorem dksX0_lay_2 : cX0_lay.data.toList.drop 45 = dktX0_lay_2 := dk_seg dksX0_lay_1 22 rfl rfl
theorem dksX0_lay_3 : cX0_lay.data.toList.drop 69 = dktX0_lay_3 := dk_seg dksX0_lay_2 24 rfl rfl
theorem dksX0_lay_4 : cX0_lay.data.toList.drop 92 = dktX0_lay_4 := dk_seg dksX0_lay_3 23 rfl rfl
theorem dX0_lay_0 : decode cX0_lay 0 = .ok (.iload_n 1, 1) := dk_27 (dk_at dksX0_lay_0 0 rfl rfl)
theorem dX0_lay_1 : decode cX0_lay 1 = .ok (.i2l, 1) := dk_133 (dk_at dksX0_lay_0 1 rfl rfl)
theorem dX0_lay_2 : decode cX0_lay 2 = .ok (.lconst 0, 1) := dk_9 (dk_at dksX0_lay_0 2 rfl rfl)
theorem dX0_lay_3 : decode cX0_lay 3 = .ok (.ldc2_w 238, 3) := dk_20 0 238 (dk_at dksX0_lay_0 3 rfl rfl)
theorem dX0_lay_6 : decode cX0_lay 6 = .ok (.invokestatic 9, 3) := dk_184 0 9 (dk_at dksX0_lay_0 6 rfl rfl)
theorem dX0_lay_9 : decode cX0_lay 9 = .ok (.ifCond .ne 5, 3) := dk_154 0 5 (dk_at dksX0_lay_0 9 rfl rfl)
theorem dX0_lay_12 : decode cX0_lay 12 = .ok (.iconst (-1), 1) := dk_2 (dk_at dksX0_lay_0 12 rfl rfl)
theorem dX0_lay_13 : decode cX0_lay 13 = .ok (.ireturn, 1) := dk_172 (dk_at dksX0_lay_0 13 rfl rfl)
theorem dX0_lay_14 : decode cX0_lay 14 = .ok (.aload_n 0, 1) := dk_42 (dk_at dksX0_lay_0 14 rfl rfl)
theorem dX0_lay_15 : decode cX0_lay 15 = .ok (.getfield 139, 3) := dk_180 0 139 (dk_at dksX0_lay_0 15 rfl rfl)
theorem dX0_lay_18 : decode cX0_lay 18 = .ok (.iload_n 1, 1) := dk_27 (dk_at dksX0_lay_0 18 rfl rfl)
theorem dX0_lay_19 : decode cX0_lay 19 = .ok (.aaload, 1) := dk_50 (dk_at dksX0_lay_0 19 rfl rfl)
theorem dX0_lay_20 : decode cX0_lay 20 = .ok (.getfield 246, 3) := dk_180 0 246 (dk_at dksX0_lay_0 20 rfl rfl)
theorem dX0_lay_23 : decode cX0_lay 23 = .ok (.astore 4, 2) := dk_58 4 (dk_at dksX0_lay_1 0 rfl rfl)
theorem dX0_lay_25 : decode cX0_lay 25 = .ok (.aload 4, 2) := dk_25 4 (dk_at dksX0_lay_1 2 rfl rfl)
theorem dX0_lay_27 : decode cX0_lay 27 = .ok (.instanceof 252, 3) := dk_193 0 252 (dk_at dksX0_lay_1 4 rfl rfl)
theorem dX0_lay_30 : decode cX0_lay 30 = .ok (.ifCond .eq 31, 3) := dk_153 0 31 (dk_at dksX0_lay_1 7 rfl rfl)
theorem dX0_lay_33 : decode cX0_lay 33 = .ok (.aload 4, 2) := dk_25 4 (dk_at dksX0_lay_1 10 rfl rfl)
theorem dX0_lay_35 : decode cX0_lay 35 = .ok (.checkcast 252, 3) := dk_192 0 252 (dk_at dksX0_lay_1 12 rfl rfl)
theorem dX0_lay_38 : decode cX0_lay 38 = .ok (.iload_n 2, 1) := dk_28 (dk_at dksX0_lay_1 15 rfl rfl)
theorem dX0_lay_39 : decode cX0_lay 39 = .ok (.iload_n 3, 1) := dk_29 (dk_at dksX0_lay_1 16 rfl rfl)
theorem dX0_lay_40 : decode cX0_lay 40 = .ok (.ldc 254, 2) := dk_18 254 (dk_at dksX0_lay_1 17 rfl rfl)
theorem dX0_lay_42 : decode cX0_lay 42 = .ok (.if_icmp .ne 9, 3) := dk_160 0 9 (dk_at dksX0_lay_1 19 rfl rfl)
theorem dX0_lay_45 : decode cX0_lay 45 = .ok (.ldc_w 257, 3) := dk_19 1 1 (dk_at dksX0_lay_2 0 rfl rfl)
theorem dX0_lay_48 : decode cX0_lay 48 = .ok (.goto 9, 3) := dk_167 0 9 (dk_at dksX0_lay_2 3 rfl rfl)
theorem dX0_lay_51 : decode cX0_lay 51 = .ok (.iload_n 3, 1) := dk_29 (dk_at dksX0_lay_2 6 rfl rfl)
theorem dX0_lay_52 : decode cX0_lay 52 = .ok (.i2f, 1) := dk_134 (dk_at dksX0_lay_2 7 rfl rfl)
theorem dX0_lay_53 : decode cX0_lay 53 = .ok (.ldc_w 258, 3) := dk_19 1 2 (dk_at dksX0_lay_2 8 rfl rfl)
theorem dX0_lay_56 : decode cX0_lay 56 = .ok (.fdiv, 1) := dk_110 (dk_at dksX0_lay_2 11 rfl rfl)
theorem dX0_lay_57 : decode cX0_lay 57 = .ok (.fastore, 1) := dk_81 (dk_at dksX0_lay_2 12 rfl rfl)
theorem dX0_lay_58 : decode cX0_lay 58 = .ok (.goto 32, 3) := dk_167 0 32 (dk_at dksX0_lay_2 13 rfl rfl)
theorem dX0_lay_61 : decode cX0_lay 61 = .ok (.aload 4, 2) := dk_25 4 (dk_at dksX0_lay_2 16 rfl rfl)
theorem dX0_lay_63 : decode cX0_lay 63 = .ok (.instanceof 259, 3) := dk_193 1 3 (dk_at dksX0_lay_2 18 rfl rfl)
theorem dX0_lay_66 : decode cX0_lay 66 = .ok (.ifCond .eq 15, 3) := dk_153 0 15 (dk_at dksX0_lay_2 21 rfl rfl)
theorem dX0_lay_69 : decode cX0_lay 69 = .ok (.aload 4, 2) := dk_25 4 (dk_at dksX0_lay_3 0 rfl rfl)
theorem dX0_lay_71 : decode cX0_lay 71 = .ok (.checkcast 259, 3) := dk_192 1 3 (dk_at dksX0_lay_3 2 rfl rfl)
theorem dX0_lay_74 : decode cX0_lay 74 = .ok (.iload_n 2, 1) := dk_28 (dk_at dksX0_lay_3 5 rfl rfl)
theorem dX0_lay_75 : decode cX0_lay 75 = .ok (.iload_n 3, 1) := dk_29 (dk_at dksX0_lay_3 6 rfl rfl)
theorem dX0_lay_76 : decode cX0_lay 76 = .ok (.i2s, 1) := dk_147 (dk_at dksX0_lay_3 7 rfl rfl)
theorem dX0_lay_77 : decode cX0_lay 77 = .ok (.sastore, 1) := dk_86 (dk_at dksX0_lay_3 8 rfl rfl)
theorem dX0_lay_78 : decode cX0_lay 78 = .ok (.goto 12, 3) := dk_167 0 12 (dk_at dksX0_lay_3 9 rfl rfl)
theorem dX0_lay_81 : decode cX0_lay 81 = .ok (.aload 4, 2) := dk_25 4 (dk_at dksX0_lay_3 12 rfl rfl)
theorem dX0_lay_83 : decode cX0_lay 83 = .ok (.checkcast 261, 3) := dk_192 1 5 (dk_at dksX0_lay_3 14 rfl rfl)
theorem dX0_lay_86 : decode cX0_lay 86 = .ok (.iload_n 2, 1) := dk_28 (dk_at dksX0_lay_3 17 rfl rfl)
theorem dX0_lay_87 : decode cX0_lay 87 = .ok (.iload_n 3, 1) := dk_29 (dk_at dksX0_lay_3 18 rfl rfl)
theorem dX0_lay_88 : decode cX0_lay 88 = .ok (.i2b, 1) := dk_145 (dk_at dksX0_lay_3 19 rfl rfl)
theorem dX0_lay_89 : decode cX0_lay 89 = .ok (.bastore, 1) := dk_84 (dk_at dksX0_lay_3 20 rfl rfl)
theorem dX0_lay_90 : decode cX0_lay 90 = .ok (.iconst 1, 1) := dk_4 (dk_at dksX0_lay_3 21 rfl rfl)
theorem dX0_lay_91 : decode cX0_lay 91 = .ok (.ireturn, 1) := dk_172 (dk_at dksX0_lay_3 22 rfl rfl)
theorem dX0_lay_92 : decode cX0_lay 92 = .ok (.astore 5, 2) := dk_58 5 (dk_at dksX0_lay_4 0 rfl rfl)
theorem dX0_lay_94 : decode cX0_lay 94 = .ok (.bipush (-11), 2) := dk_16 245 (dk_at dksX0_lay_4 2 rfl rfl)
theorem dX0_lay_96 : decode cX0_lay 96 = .ok (.ireturn, 1) := dk_172 (dk_at dksX0_lay_4 4 rfl rfl)
theorem dX0_lay_97 : decode cX0_lay 97 = .ok (.astore 5, 2) := dk_58 5 (dk_at dksX0_lay_4 5 rfl rfl)
theorem dX0_lay_99 : decode cX0_lay 99 = .ok (.bipush (-12), 2) := dk_16 244 (dk_at dksX0_lay_4 7 rfl rfl)
theorem dX0_lay_101 : decode cX0_lay 101 = .ok (.ireturn, 1) := dk_172 (dk_at dksX0_lay_4 9 rfl rfl)
abbrev cX0_tear : ByteArray := prog_1_method_19_code
def yX0_tear : MethodName := ⟨RX0, "tear", "(I)I"⟩
def dkwX0_tear_1 : List UInt8 := [199, 0, 7, 3, 167, 0, 4, 4, 61, 42, 180, 0, 139, 27, 50, 1, 181, 0, 246, 28, 172]
abbrev dktX0_tear_1 : List UInt8 := dkwX0_tear_1 ++ []
def dkwX0_tear_0 : List UInt8 := [27, 133, 9, 20, 0, 238, 184, 0, 9, 154, 0, 5, 2, 172, 42, 180, 0, 139, 27, 50, 180, 0, 246]
abbrev dktX0_tear_0 : List UInt8 := dkwX0_tear_0 ++ dktX0_tear_1
theorem dksX0_tear_0 : cX0_tear.data.toList.drop 0 = dktX0_tear_0 := by decide +kernel
theorem dksX0_tear_1 : cX0_tear.data.toList.drop 23 = dktX0_tear_1 := dk_seg dksX0_tear_0 23 rfl rfl
theorem dX0_tear_0 : decode cX0_tear 0 = .ok (.iload_n 1, 1) := dk_27 (dk_at dksX0_tear_0 0 rfl rfl)
theorem dX0_tear_1 : decode cX0_tear 1 = .ok (.i2l, 1) := dk_133 (dk_at dksX0_tear_0 1 rfl rfl)
theorem dX0_tear_2 : decode cX0_tear 2 = .ok (.lconst 0, 1) := dk_9 (dk_at dksX0_tear_0 2 rfl rfl)
theorem dX0_tear_3 : decode cX0_tear 3 = .ok (.ldc2_w 238, 3) := dk_20 0 238 (dk_at dksX0_tear_0 3 rfl rfl)
theorem dX0_tear_6 : decode cX0_tear 6 = .ok (.invokestatic 9, 3) := dk_184 0 9 (dk_at dksX0_tear_0 6 rfl rfl)
theorem dX0_tear_9 : decode cX0_tear 9 = .ok (.ifCond .ne 5, 3) := dk_154 0 5 (dk_at dksX0_tear_0 9 rfl rfl)
theorem dX0_tear_12 : decode cX0_tear 12 = .ok (.iconst (-1), 1) := dk_2 (dk_at dksX0_tear_0 12 rfl rfl)
theorem dX0_tear_13 : decode cX0_tear 13 = .ok (.ireturn, 1) := dk_172 (dk_at dksX0_tear_0 13 rfl rfl)
theorem dX0_tear_14 : decode cX0_tear 14 = .ok (.aload_n 0, 1) := dk_42 (dk_at dksX0_tear_0 14 rfl rfl)
theorem dX0_tear_15 : decode cX0_tear 15 = .ok (.getfield 139, 3) := dk_180 0 139 (dk_at dksX0_tear_0 15 rfl rfl)
theorem dX0_tear_18 : decode cX0_tear 18 = .ok (.iload_n 1, 1) := dk_27 (dk_at dksX0_tear_0 18 rfl rfl)
theorem dX0_tear_19 : decode cX0_tear 19 = .ok (.aaload, 1) := dk_50 (dk_at dksX0_tear_0 19 rfl rfl)
theorem dX0_tear_20 : decode cX0_tear 20 = .ok (.getfield 246, 3) := dk_180 0 246 (dk_at dksX0_tear_0 20 rfl rfl)
theorem dX0_tear_23 : decode cX0_tear 23 = .ok (.ifnonnull 7, 3) := dk_199 0 7 (dk_at dksX0_tear_1 0 rfl rfl)
theorem dX0_tear_26 : decode cX0_tear 26 = .ok (.iconst 0, 1) := dk_3 (dk_at dksX0_tear_1 3 rfl rfl)
theorem dX0_tear_27 : decode cX0_tear 27 = .ok (.goto 4, 3) := dk_167 0 4 (dk_at dksX0_tear_1 4 rfl rfl)
theorem dX0_tear_30 : decode cX0_tear 30 = .ok (.iconst 1, 1) := dk_4 (dk_at dksX0_tear_1 7 rfl rfl)
theorem dX0_tear_31 : decode cX0_tear 31 = .ok (.istore_n 2, 1) := dk_61 (dk_at dksX0_tear_1 8 rfl rfl)
theorem dX0_tear_32 : decode cX0_tear 32 = .ok (.aload_n 0, 1) := dk_42 (dk_at dksX0_tear_1 9 rfl rfl)
theorem dX0_tear_33 : decode cX0_tear 33 = .ok (.getfield 139, 3) := dk_180 0 139 (dk_at dksX0_tear_1 10 rfl rfl)
theorem dX0_tear_36 : decode cX0_tear 36 = .ok (.iload_n 1, 1) := dk_27 (dk_at dksX0_tear_1 13 rfl rfl)
theorem dX0_tear_37 : decode cX0_tear 37 = .ok (.aaload, 1) := dk_50 (dk_at dksX0_tear_1 14 rfl rfl)
theorem dX0_tear_38 : decode cX0_tear 38 = .ok (.aconst_null, 1) := dk_1 (dk_at dksX0_tear_1 15 rfl rfl)
theorem dX0_tear_39 : decode cX0_tear 39 = .ok (.putfield 246, 3) := dk_181 0 246 (dk_at dksX0_tear_1 16 rfl rfl)
theorem dX0_tear_42 : decode cX0_tear 42 = .ok (.iload_n 2, 1) := dk_28 (dk_at dksX0_tear_1 19 rfl rfl)
theorem dX0_tear_43 : decode cX0_tear 43 = .ok (.ireturn, 1) := dk_172 (dk_at dksX0_tear_1 20 rfl rfl)
abbrev cX0_weather : ByteArray := prog_1_method_25_code
def yX0_weather : MethodName := ⟨RX0, "weather", "(II)I"⟩
def dkwX0_weather_1 : List UInt8 := [2, 172, 42, 28, 182, 1, 42, 42, 180, 0, 145, 27, 50, 28, 46, 172]
abbrev dktX0_weather_1 : List UInt8 := dkwX0_weather_1 ++ []
def dkwX0_weather_0 : List UInt8 := [27, 133, 9, 20, 1, 46, 184, 0, 9, 153, 0, 15, 28, 133, 9, 20, 0, 240, 184, 0, 9, 154, 0, 5]
abbrev dktX0_weather_0 : List UInt8 := dkwX0_weather_0 ++ dktX0_weather_1
theorem dksX0_weather_0 : cX0_weather.data.toList.drop 0 = dktX0_weather_0 := by decide +kernel
theorem dksX0_weather_1 : cX0_weather.data.toList.drop 24 = dktX0_weather_1 := dk_seg dksX0_weather_0 24 rfl rfl
theorem dX0_weather_0 : decode cX0_weather 0 = .ok (.iload_n 1, 1) := dk_27 (dk_at dksX0_weather_0 0 rfl rfl)
theorem dX0_weather_1 : decode cX0_weather 1 = .ok (.i2l, 1) := dk_133 (dk_at dksX0_weather_0 1 rfl rfl)
theorem dX0_weather_2 : decode cX0_weather 2 = .ok (.lconst 0, 1) := dk_9 (dk_at dksX0_weather_0 2 rfl rfl)
theorem dX0_weather_3 : decode cX0_weather 3 = .ok (.ldc2_w 302, 3) := dk_20 1 46 (dk_at dksX0_weather_0 3 rfl rfl)
theorem dX0_weather_6 : decode cX0_weather 6 = .ok (.invokestatic 9, 3) := dk_184 0 9 (dk_at dksX0_weather_0 6 rfl rfl)
theorem dX0_weather_9 : decode cX0_weather 9 = .ok (.ifCond .eq 15, 3) := dk_153 0 15 (dk_at dksX0_weather_0 9 rfl rfl)
theorem dX0_weather_12 : decode cX0_weather 12 = .ok (.iload_n 2, 1) := dk_28 (dk_at dksX0_weather_0 12 rfl rfl)
theorem dX0_weather_13 : decode cX0_weather 13 = .ok (.i2l, 1) := dk_133 (dk_at dksX0_weather_0 13 rfl rfl)
theorem dX0_weather_14 : decode cX0_weather 14 = .ok (.lconst 0, 1) := dk_9 (dk_at dksX0_weather_0 14 rfl rfl)
theorem dX0_weather_15 : decode cX0_weather 15 = .ok (.ldc2_w 240, 3) := dk_20 0 240 (dk_at dksX0_weather_0 15 rfl rfl)
theorem dX0_weather_18 : decode cX0_weather 18 = .ok (.invokestatic 9, 3) := dk_184 0 9 (dk_at dksX0_weather_0 18 rfl rfl)
theorem dX0_weather_21 : decode cX0_weather 21 = .ok (.ifCond .ne 5, 3) := dk_154 0 5 (dk_at dksX0_weather_0 21 rfl rfl)
theorem dX0_weather_24 : decode cX0_weather 24 = .ok (.iconst (-1), 1) := dk_2 (dk_at dksX0_weather_1 0 rfl rfl)
theorem dX0_weather_25 : decode cX0_weather 25 = .ok (.ireturn, 1) := dk_172 (dk_at dksX0_weather_1 1 rfl rfl)
theorem dX0_weather_26 : decode cX0_weather 26 = .ok (.aload_n 0, 1) := dk_42 (dk_at dksX0_weather_1 2 rfl rfl)
theorem dX0_weather_27 : decode cX0_weather 27 = .ok (.iload_n 2, 1) := dk_28 (dk_at dksX0_weather_1 3 rfl rfl)
theorem dX0_weather_28 : decode cX0_weather 28 = .ok (.invokevirtual 298, 3) := dk_182 1 42 (dk_at dksX0_weather_1 4 rfl rfl)
theorem dX0_weather_31 : decode cX0_weather 31 = .ok (.aload_n 0, 1) := dk_42 (dk_at dksX0_weather_1 7 rfl rfl)
theorem dX0_weather_32 : decode cX0_weather 32 = .ok (.getfield 145, 3) := dk_180 0 145 (dk_at dksX0_weather_1 8 rfl rfl)
theorem dX0_weather_35 : decode cX0_weather 35 = .ok (.iload_n 1, 1) := dk_27 (dk_at dksX0_weather_1 11 rfl rfl)
theorem dX0_weather_36 : decode cX0_weather 36 = .ok (.aaload, 1) := dk_50 (dk_at dksX0_weather_1 12 rfl rfl)
theorem dX0_weather_37 : decode cX0_weather 37 = .ok (.iload_n 2, 1) := dk_28 (dk_at dksX0_weather_1 13 rfl rfl)
theorem dX0_weather_38 : decode cX0_weather 38 = .ok (.iaload, 1) := dk_46 (dk_at dksX0_weather_1 14 rfl rfl)
theorem dX0_weather_39 : decode cX0_weather 39 = .ok (.ireturn, 1) := dk_172 (dk_at dksX0_weather_1 15 rfl rfl)
abbrev cX0_look : ByteArray := prog_1_method_23_code
def yX0_look : MethodName := ⟨RX0, "look", "(I)V"⟩
def dkwX0_look_4 : List UInt8 := [17, 0, 200, 167, 0, 5, 16, 99, 79, 132, 2, 1, 167, 255, 227, 177]
abbrev dktX0_look_4 : List UInt8 := dkwX0_look_4 ++ []
def dkwX0_look_3 : List UInt8 := [180, 0, 148, 27, 28, 79, 28, 16, 24, 162, 0, 29, 42, 180, 0, 145, 28, 50, 27, 27, 154, 0, 9]
abbrev dktX0_look_3 : List UInt8 := dkwX0_look_3 ++ dktX0_look_4
def dkwX0_look_2 : List UInt8 := [167, 0, 22, 78, 42, 180, 0, 151, 27, 6, 79, 167, 0, 11, 78, 42, 180, 0, 151, 27, 5, 79, 42]
abbrev dktX0_look_2 : List UInt8 := dkwX0_look_2 ++ dktX0_look_3
def dkwX0_look_1 : List UInt8 := [28, 182, 1, 37, 79, 132, 2, 1, 167, 255, 233, 167, 0, 33, 78, 42, 180, 0, 151, 27, 4, 79]
abbrev dktX0_look_1 : List UInt8 := dkwX0_look_1 ++ dktX0_look_2
def dkwX0_look_0 : List UInt8 := [3, 61, 42, 180, 0, 151, 27, 3, 79, 28, 16, 24, 162, 0, 23, 42, 180, 0, 145, 28, 50, 27, 42, 27]
abbrev dktX0_look_0 : List UInt8 := dkwX0_look_0 ++ dktX0_look_1
theorem dksX0_look_0 : cX0_look.data.toList.drop 0 = dktX0_look_0 := by decide +kernel
theorem dksX0_look_1 : cX0_look.data.toList.drop 24 = dktX0_look_1 := dk_seg dksX0_look_0 24 rfl rfl
theorem dksX0_look_2 : cX0_look.data.toList.drop 46 = dktX0_look_2 := dk_seg dksX0_look_1 22 rfl rfl
theorem dksX0_look_3 : cX0_look.data.toList.drop 69 = dktX0_look_3 := dk_seg dksX0_look_2 23 rfl rfl
theorem dksX0_look_4 : cX0_look.data.toList.drop 92 = dktX0_look_4 := dk_seg dksX0_look_3 23 rfl rfl
theorem dX0_look_0 : decode cX0_look 0 = .ok (.iconst 0, 1) := dk_3 (dk_at dksX0_look_0 0 rfl rfl)
theorem dX0_look_1 : decode cX0_look 1 = .ok (.istore_n 2, 1) := dk_61 (dk_at dksX0_look_0 1 rfl rfl)
theorem dX0_look_2 : decode cX0_look 2 = .ok (.aload_n 0, 1) := dk_42 (dk_at dksX0_look_0 2 rfl rfl)
theorem dX0_look_3 : decode cX0_look 3 = .ok (.getfield 151, 3) := dk_180 0 151 (dk_at dksX0_look_0 3 rfl rfl)
theorem dX0_look_6 : decode cX0_look 6 = .ok (.iload_n 1, 1) := dk_27 (dk_at dksX0_look_0 6 rfl rfl)
theorem dX0_look_7 : decode cX0_look 7 = .ok (.iconst 0, 1) := dk_3 (dk_at dksX0_look_0 7 rfl rfl)
theorem dX0_look_8 : decode cX0_look 8 = .ok (.iastore, 1) := dk_79 (dk_at dksX0_look_0 8 rfl rfl)
theorem dX0_look_9 : decode cX0_look 9 = .ok (.iload_n 2, 1) := dk_28 (dk_at dksX0_look_0 9 rfl rfl)
theorem dX0_look_10 : decode cX0_look 10 = .ok (.bipush 24, 2) := dk_16 24 (dk_at dksX0_look_0 10 rfl rfl)
theorem dX0_look_12 : decode cX0_look 12 = .ok (.if_icmp .ge 23, 3) := dk_162 0 23 (dk_at dksX0_look_0 12 rfl rfl)
theorem dX0_look_15 : decode cX0_look 15 = .ok (.aload_n 0, 1) := dk_42 (dk_at dksX0_look_0 15 rfl rfl)
theorem dX0_look_16 : decode cX0_look 16 = .ok (.getfield 145, 3) := dk_180 0 145 (dk_at dksX0_look_0 16 rfl rfl)
theorem dX0_look_19 : decode cX0_look 19 = .ok (.iload_n 2, 1) := dk_28 (dk_at dksX0_look_0 19 rfl rfl)
theorem dX0_look_20 : decode cX0_look 20 = .ok (.aaload, 1) := dk_50 (dk_at dksX0_look_0 20 rfl rfl)
theorem dX0_look_21 : decode cX0_look 21 = .ok (.iload_n 1, 1) := dk_27 (dk_at dksX0_look_0 21 rfl rfl)
theorem dX0_look_22 : decode cX0_look 22 = .ok (.aload_n 0, 1) := dk_42 (dk_at dksX0_look_0 22 rfl rfl)
theorem dX0_look_23 : decode cX0_look 23 = .ok (.iload_n 1, 1) := dk_27 (dk_at dksX0_look_0 23 rfl rfl)
theorem dX0_look_24 : decode cX0_look 24 = .ok (.iload_n 2, 1) := dk_28 (dk_at dksX0_look_1 0 rfl rfl)
theorem dX0_look_25 : decode cX0_look 25 = .ok (.invokevirtual 293, 3) := dk_182 1 37 (dk_at dksX0_look_1 1 rfl rfl)
theorem dX0_look_28 : decode cX0_look 28 = .ok (.iastore, 1) := dk_79 (dk_at dksX0_look_1 4 rfl rfl)
theorem dX0_look_29 : decode cX0_look 29 = .ok (.iinc 2 1, 3) := dk_132 2 1 (dk_at dksX0_look_1 5 rfl rfl)
theorem dX0_look_32 : decode cX0_look 32 = .ok (.goto (-23), 3) := dk_167 255 233 (dk_at dksX0_look_1 8 rfl rfl)
theorem dX0_look_35 : decode cX0_look 35 = .ok (.goto 33, 3) := dk_167 0 33 (dk_at dksX0_look_1 11 rfl rfl)
theorem dX0_look_38 : decode cX0_look 38 = .ok (.astore_n 3, 1) := dk_78 (dk_at dksX0_look_1 14 rfl rfl)
theorem dX0_look_39 : decode cX0_look 39 = .ok (.aload_n 0, 1) := dk_42 (dk_at dksX0_look_1 15 rfl rfl)
theorem dX0_look_40 : decode cX0_look 40 = .ok (.getfield 151, 3) := dk_180 0 151 (dk_at dksX0_look_1 16 rfl rfl)
theorem dX0_look_43 : decode cX0_look 43 = .ok (.iload_n 1, 1) := dk_27 (dk_at dksX0_look_1 19 rfl rfl)
theorem dX0_look_44 : decode cX0_look 44 = .ok (.iconst 1, 1) := dk_4 (dk_at dksX0_look_1 20 rfl rfl)
theorem dX0_look_45 : decode cX0_look 45 = .ok (.iastore, 1) := dk_79 (dk_at dksX0_look_1 21 rfl rfl)
theorem dX0_look_46 : decode cX0_look 46 = .ok (.goto 22, 3) := dk_167 0 22 (dk_at dksX0_look_2 0 rfl rfl)
theorem dX0_look_49 : decode cX0_look 49 = .ok (.astore_n 3, 1) := dk_78 (dk_at dksX0_look_2 3 rfl rfl)
theorem dX0_look_50 : decode cX0_look 50 = .ok (.aload_n 0, 1) := dk_42 (dk_at dksX0_look_2 4 rfl rfl)
theorem dX0_look_51 : decode cX0_look 51 = .ok (.getfield 151, 3) := dk_180 0 151 (dk_at dksX0_look_2 5 rfl rfl)
theorem dX0_look_54 : decode cX0_look 54 = .ok (.iload_n 1, 1) := dk_27 (dk_at dksX0_look_2 8 rfl rfl)
theorem dX0_look_55 : decode cX0_look 55 = .ok (.iconst 3, 1) := dk_6 (dk_at dksX0_look_2 9 rfl rfl)
theorem dX0_look_56 : decode cX0_look 56 = .ok (.iastore, 1) := dk_79 (dk_at dksX0_look_2 10 rfl rfl)
theorem dX0_look_57 : decode cX0_look 57 = .ok (.goto 11, 3) := dk_167 0 11 (dk_at dksX0_look_2 11 rfl rfl)
theorem dX0_look_60 : decode cX0_look 60 = .ok (.astore_n 3, 1) := dk_78 (dk_at dksX0_look_2 14 rfl rfl)
theorem dX0_look_61 : decode cX0_look 61 = .ok (.aload_n 0, 1) := dk_42 (dk_at dksX0_look_2 15 rfl rfl)
theorem dX0_look_62 : decode cX0_look 62 = .ok (.getfield 151, 3) := dk_180 0 151 (dk_at dksX0_look_2 16 rfl rfl)
theorem dX0_look_65 : decode cX0_look 65 = .ok (.iload_n 1, 1) := dk_27 (dk_at dksX0_look_2 19 rfl rfl)
theorem dX0_look_66 : decode cX0_look 66 = .ok (.iconst 2, 1) := dk_5 (dk_at dksX0_look_2 20 rfl rfl)
theorem dX0_look_67 : decode cX0_look 67 = .ok (.iastore, 1) := dk_79 (dk_at dksX0_look_2 21 rfl rfl)
theorem dX0_look_68 : decode cX0_look 68 = .ok (.aload_n 0, 1) := dk_42 (dk_at dksX0_look_2 22 rfl rfl)
theorem dX0_look_69 : decode cX0_look 69 = .ok (.getfield 148, 3) := dk_180 0 148 (dk_at dksX0_look_3 0 rfl rfl)
theorem dX0_look_72 : decode cX0_look 72 = .ok (.iload_n 1, 1) := dk_27 (dk_at dksX0_look_3 3 rfl rfl)
theorem dX0_look_73 : decode cX0_look 73 = .ok (.iload_n 2, 1) := dk_28 (dk_at dksX0_look_3 4 rfl rfl)
theorem dX0_look_74 : decode cX0_look 74 = .ok (.iastore, 1) := dk_79 (dk_at dksX0_look_3 5 rfl rfl)
theorem dX0_look_75 : decode cX0_look 75 = .ok (.iload_n 2, 1) := dk_28 (dk_at dksX0_look_3 6 rfl rfl)
theorem dX0_look_76 : decode cX0_look 76 = .ok (.bipush 24, 2) := dk_16 24 (dk_at dksX0_look_3 7 rfl rfl)
theorem dX0_look_78 : decode cX0_look 78 = .ok (.if_icmp .ge 29, 3) := dk_162 0 29 (dk_at dksX0_look_3 9 rfl rfl)
theorem dX0_look_81 : decode cX0_look 81 = .ok (.aload_n 0, 1) := dk_42 (dk_at dksX0_look_3 12 rfl rfl)
theorem dX0_look_82 : decode cX0_look 82 = .ok (.getfield 145, 3) := dk_180 0 145 (dk_at dksX0_look_3 13 rfl rfl)
theorem dX0_look_85 : decode cX0_look 85 = .ok (.iload_n 2, 1) := dk_28 (dk_at dksX0_look_3 16 rfl rfl)
theorem dX0_look_86 : decode cX0_look 86 = .ok (.aaload, 1) := dk_50 (dk_at dksX0_look_3 17 rfl rfl)
theorem dX0_look_87 : decode cX0_look 87 = .ok (.iload_n 1, 1) := dk_27 (dk_at dksX0_look_3 18 rfl rfl)
theorem dX0_look_88 : decode cX0_look 88 = .ok (.iload_n 1, 1) := dk_27 (dk_at dksX0_look_3 19 rfl rfl)
theorem dX0_look_89 : decode cX0_look 89 = .ok (.ifCond .ne 9, 3) := dk_154 0 9 (dk_at dksX0_look_3 20 rfl rfl)
theorem dX0_look_92 : decode cX0_look 92 = .ok (.sipush 200, 3) := dk_17 0 200 (dk_at dksX0_look_4 0 rfl rfl)
theorem dX0_look_95 : decode cX0_look 95 = .ok (.goto 5, 3) := dk_167 0 5 (dk_at dksX0_look_4 3 rfl rfl)
theorem dX0_look_98 : decode cX0_look 98 = .ok (.bipush 99, 2) := dk_16 99 (dk_at dksX0_look_4 6 rfl rfl)
theorem dX0_look_100 : decode cX0_look 100 = .ok (.iastore, 1) := dk_79 (dk_at dksX0_look_4 8 rfl rfl)
theorem dX0_look_101 : decode cX0_look 101 = .ok (.iinc 2 1, 3) := dk_132 2 1 (dk_at dksX0_look_4 9 rfl rfl)
theorem dX0_look_104 : decode cX0_look 104 = .ok (.goto (-29), 3) := dk_167 255 227 (dk_at dksX0_look_4 12 rfl rfl)
theorem dX0_look_107 : decode cX0_look 107 = .ok (.return_, 1) := dk_177 (dk_at dksX0_look_4 15 rfl rfl)
abbrev cX0_read : ByteArray := prog_1_method_22_code
def yX0_read : MethodName := ⟨RX0, "read", "(II)I"⟩
def dkwX0_read_3 : List UInt8 := [28, 51, 184, 1, 33, 172]
abbrev dktX0_read_3 : List UInt8 := dkwX0_read_3 ++ []
def dkwX0_read_2 : List UInt8 := [45, 192, 0, 252, 28, 48, 184, 1, 29, 172, 45, 192, 1, 3, 28, 53, 184, 1, 33, 172, 45, 192, 1, 5]
abbrev dktX0_read_2 : List UInt8 := dkwX0_read_2 ++ dktX0_read_3
def dkwX0_read_1 : List UInt8 := [171, 0, 0, 0, 45, 0, 0, 0, 2, 0, 0, 0, 0, 0, 0, 0, 25, 0, 0, 0, 1, 0, 0, 0, 35]
abbrev dktX0_read_1 : List UInt8 := dkwX0_read_1 ++ dktX0_read_2
def dkwX0_read_0 : List UInt8 := [42, 180, 0, 139, 27, 50, 180, 0, 246, 78, 27]
abbrev dktX0_read_0 : List UInt8 := dkwX0_read_0 ++ dktX0_read_1
theorem dksX0_read_0 : cX0_read.data.toList.drop 0 = dktX0_read_0 := by decide +kernel
theorem dksX0_read_1 : cX0_read.data.toList.drop 11 = dktX0_read_1 := dk_seg dksX0_read_0 11 rfl rfl
theorem dksX0_read_2 : cX0_read.data.toList.drop 36 = dktX0_read_2 := dk_seg dksX0_read_1 25 rfl rfl
theorem dksX0_read_3 : cX0_read.data.toList.drop 60 = dktX0_read_3 := dk_seg dksX0_read_2 24 rfl rfl
theorem dX0_read_0 : decode cX0_read 0 = .ok (.aload_n 0, 1) := dk_42 (dk_at dksX0_read_0 0 rfl rfl)
theorem dX0_read_1 : decode cX0_read 1 = .ok (.getfield 139, 3) := dk_180 0 139 (dk_at dksX0_read_0 1 rfl rfl)
theorem dX0_read_4 : decode cX0_read 4 = .ok (.iload_n 1, 1) := dk_27 (dk_at dksX0_read_0 4 rfl rfl)
theorem dX0_read_5 : decode cX0_read 5 = .ok (.aaload, 1) := dk_50 (dk_at dksX0_read_0 5 rfl rfl)
theorem dX0_read_6 : decode cX0_read 6 = .ok (.getfield 246, 3) := dk_180 0 246 (dk_at dksX0_read_0 6 rfl rfl)
theorem dX0_read_9 : decode cX0_read 9 = .ok (.astore_n 3, 1) := dk_78 (dk_at dksX0_read_0 9 rfl rfl)
theorem dX0_read_10 : decode cX0_read 10 = .ok (.iload_n 1, 1) := dk_27 (dk_at dksX0_read_0 10 rfl rfl)
theorem dX0_read_11 : decode cX0_read 11 = .ok (.lookupswitch 45 #[(0, 25), (1, 35)], 25) := by decide +kernel
theorem dX0_read_36 : decode cX0_read 36 = .ok (.aload_n 3, 1) := dk_45 (dk_at dksX0_read_2 0 rfl rfl)
theorem dX0_read_37 : decode cX0_read 37 = .ok (.checkcast 252, 3) := dk_192 0 252 (dk_at dksX0_read_2 1 rfl rfl)
theorem dX0_read_40 : decode cX0_read 40 = .ok (.iload_n 2, 1) := dk_28 (dk_at dksX0_read_2 4 rfl rfl)
theorem dX0_read_41 : decode cX0_read 41 = .ok (.faload, 1) := dk_48 (dk_at dksX0_read_2 5 rfl rfl)
theorem dX0_read_42 : decode cX0_read 42 = .ok (.invokestatic 285, 3) := dk_184 1 29 (dk_at dksX0_read_2 6 rfl rfl)
theorem dX0_read_45 : decode cX0_read 45 = .ok (.ireturn, 1) := dk_172 (dk_at dksX0_read_2 9 rfl rfl)
theorem dX0_read_46 : decode cX0_read 46 = .ok (.aload_n 3, 1) := dk_45 (dk_at dksX0_read_2 10 rfl rfl)
theorem dX0_read_47 : decode cX0_read 47 = .ok (.checkcast 259, 3) := dk_192 1 3 (dk_at dksX0_read_2 11 rfl rfl)
theorem dX0_read_50 : decode cX0_read 50 = .ok (.iload_n 2, 1) := dk_28 (dk_at dksX0_read_2 14 rfl rfl)
theorem dX0_read_51 : decode cX0_read 51 = .ok (.saload, 1) := dk_53 (dk_at dksX0_read_2 15 rfl rfl)
theorem dX0_read_52 : decode cX0_read 52 = .ok (.invokestatic 289, 3) := dk_184 1 33 (dk_at dksX0_read_2 16 rfl rfl)
theorem dX0_read_55 : decode cX0_read 55 = .ok (.ireturn, 1) := dk_172 (dk_at dksX0_read_2 19 rfl rfl)
theorem dX0_read_56 : decode cX0_read 56 = .ok (.aload_n 3, 1) := dk_45 (dk_at dksX0_read_2 20 rfl rfl)
theorem dX0_read_57 : decode cX0_read 57 = .ok (.checkcast 261, 3) := dk_192 1 5 (dk_at dksX0_read_2 21 rfl rfl)
theorem dX0_read_60 : decode cX0_read 60 = .ok (.iload_n 2, 1) := dk_28 (dk_at dksX0_read_3 0 rfl rfl)
theorem dX0_read_61 : decode cX0_read 61 = .ok (.baload, 1) := dk_51 (dk_at dksX0_read_3 1 rfl rfl)
theorem dX0_read_62 : decode cX0_read 62 = .ok (.invokestatic 289, 3) := dk_184 1 33 (dk_at dksX0_read_3 2 rfl rfl)
theorem dX0_read_65 : decode cX0_read 65 = .ok (.ireturn, 1) := dk_172 (dk_at dksX0_read_3 5 rfl rfl)
abbrev cX0_asWind : ByteArray := prog_1_method_20_code
def yX0_asWind : MethodName := ⟨RX0, "asWind", "(F)I"⟩
def dkwX0_asWind_1 : List UInt8 := [139, 172]
abbrev dktX0_asWind_1 : List UInt8 := dkwX0_asWind_1 ++ []
def dkwX0_asWind_0 : List UInt8 := [34, 184, 1, 10, 153, 0, 9, 17, 0, 200, 167, 0, 15, 11, 19, 1, 14, 34, 184, 1, 15, 184, 1, 21]
abbrev dktX0_asWind_0 : List UInt8 := dkwX0_asWind_0 ++ dktX0_asWind_1
theorem dksX0_asWind_0 : cX0_asWind.data.toList.drop 0 = dktX0_asWind_0 := by decide +kernel
theorem dksX0_asWind_1 : cX0_asWind.data.toList.drop 24 = dktX0_asWind_1 := dk_seg dksX0_asWind_0 24 rfl rfl
theorem dX0_asWind_0 : decode cX0_asWind 0 = .ok (.fload_n 0, 1) := dk_34 (dk_at dksX0_asWind_0 0 rfl rfl)
theorem dX0_asWind_1 : decode cX0_asWind 1 = .ok (.invokestatic 266, 3) := dk_184 1 10 (dk_at dksX0_asWind_0 1 rfl rfl)
theorem dX0_asWind_4 : decode cX0_asWind 4 = .ok (.ifCond .eq 9, 3) := dk_153 0 9 (dk_at dksX0_asWind_0 4 rfl rfl)
theorem dX0_asWind_7 : decode cX0_asWind 7 = .ok (.sipush 200, 3) := dk_17 0 200 (dk_at dksX0_asWind_0 7 rfl rfl)
theorem dX0_asWind_10 : decode cX0_asWind 10 = .ok (.goto 15, 3) := dk_167 0 15 (dk_at dksX0_asWind_0 10 rfl rfl)
theorem dX0_asWind_13 : decode cX0_asWind 13 = .ok (.fconst 0, 1) := dk_11 (dk_at dksX0_asWind_0 13 rfl rfl)
theorem dX0_asWind_14 : decode cX0_asWind 14 = .ok (.ldc_w 270, 3) := dk_19 1 14 (dk_at dksX0_asWind_0 14 rfl rfl)
theorem dX0_asWind_17 : decode cX0_asWind 17 = .ok (.fload_n 0, 1) := dk_34 (dk_at dksX0_asWind_0 17 rfl rfl)
theorem dX0_asWind_18 : decode cX0_asWind 18 = .ok (.invokestatic 271, 3) := dk_184 1 15 (dk_at dksX0_asWind_0 18 rfl rfl)
theorem dX0_asWind_21 : decode cX0_asWind 21 = .ok (.invokestatic 277, 3) := dk_184 1 21 (dk_at dksX0_asWind_0 21 rfl rfl)
theorem dX0_asWind_24 : decode cX0_asWind 24 = .ok (.f2i, 1) := dk_139 (dk_at dksX0_asWind_1 0 rfl rfl)
theorem dX0_asWind_25 : decode cX0_asWind 25 = .ok (.ireturn, 1) := dk_172 (dk_at dksX0_asWind_1 1 rfl rfl)
abbrev cX0_asMuch : ByteArray := prog_1_method_21_code
def yX0_asMuch : MethodName := ⟨RX0, "asMuch", "(I)I"⟩
def dkwX0_asMuch_0 : List UInt8 := [3, 16, 99, 26, 184, 1, 24, 184, 1, 27, 172]
abbrev dktX0_asMuch_0 : List UInt8 := dkwX0_asMuch_0 ++ []
theorem dksX0_asMuch_0 : cX0_asMuch.data.toList.drop 0 = dktX0_asMuch_0 := by decide +kernel
theorem dX0_asMuch_0 : decode cX0_asMuch 0 = .ok (.iconst 0, 1) := dk_3 (dk_at dksX0_asMuch_0 0 rfl rfl)
theorem dX0_asMuch_1 : decode cX0_asMuch 1 = .ok (.bipush 99, 2) := dk_16 99 (dk_at dksX0_asMuch_0 1 rfl rfl)
theorem dX0_asMuch_3 : decode cX0_asMuch 3 = .ok (.iload_n 0, 1) := dk_26 (dk_at dksX0_asMuch_0 3 rfl rfl)
theorem dX0_asMuch_4 : decode cX0_asMuch 4 = .ok (.invokestatic 280, 3) := dk_184 1 24 (dk_at dksX0_asMuch_0 4 rfl rfl)
theorem dX0_asMuch_7 : decode cX0_asMuch 7 = .ok (.invokestatic 283, 3) := dk_184 1 27 (dk_at dksX0_asMuch_0 7 rfl rfl)
theorem dX0_asMuch_10 : decode cX0_asMuch 10 = .ok (.ireturn, 1) := dk_172 (dk_at dksX0_asMuch_0 10 rfl rfl)
abbrev cX0_unknown : ByteArray := prog_1_method_26_code
def yX0_unknown : MethodName := ⟨RX0, "unknown", "(II)I"⟩
def dkwX0_unknown_2 : List UInt8 := [167, 0, 4, 3, 172]
abbrev dktX0_unknown_2 : List UInt8 := dkwX0_unknown_2 ++ []
def dkwX0_unknown_1 : List UInt8 := [2, 172, 42, 28, 182, 1, 42, 27, 42, 180, 0, 148, 28, 46, 161, 0, 12, 42, 180, 0, 151, 28, 46]
abbrev dktX0_unknown_1 : List UInt8 := dkwX0_unknown_1 ++ dktX0_unknown_2
def dkwX0_unknown_0 : List UInt8 := [27, 133, 9, 20, 1, 46, 184, 0, 9, 153, 0, 15, 28, 133, 9, 20, 0, 240, 184, 0, 9, 154, 0, 5]
abbrev dktX0_unknown_0 : List UInt8 := dkwX0_unknown_0 ++ dktX0_unknown_1
theorem dksX0_unknown_0 : cX0_unknown.data.toList.drop 0 = dktX0_unknown_0 := by decide +kernel
theorem dksX0_unknown_1 : cX0_unknown.data.toList.drop 24 = dktX0_unknown_1 := dk_seg dksX0_unknown_0 24 rfl rfl
theorem dksX0_unknown_2 : cX0_unknown.data.toList.drop 47 = dktX0_unknown_2 := dk_seg dksX0_unknown_1 23 rfl rfl
theorem dX0_unknown_0 : decode cX0_unknown 0 = .ok (.iload_n 1, 1) := dk_27 (dk_at dksX0_unknown_0 0 rfl rfl)
theorem dX0_unknown_1 : decode cX0_unknown 1 = .ok (.i2l, 1) := dk_133 (dk_at dksX0_unknown_0 1 rfl rfl)
theorem dX0_unknown_2 : decode cX0_unknown 2 = .ok (.lconst 0, 1) := dk_9 (dk_at dksX0_unknown_0 2 rfl rfl)
theorem dX0_unknown_3 : decode cX0_unknown 3 = .ok (.ldc2_w 302, 3) := dk_20 1 46 (dk_at dksX0_unknown_0 3 rfl rfl)
theorem dX0_unknown_6 : decode cX0_unknown 6 = .ok (.invokestatic 9, 3) := dk_184 0 9 (dk_at dksX0_unknown_0 6 rfl rfl)
theorem dX0_unknown_9 : decode cX0_unknown 9 = .ok (.ifCond .eq 15, 3) := dk_153 0 15 (dk_at dksX0_unknown_0 9 rfl rfl)
theorem dX0_unknown_12 : decode cX0_unknown 12 = .ok (.iload_n 2, 1) := dk_28 (dk_at dksX0_unknown_0 12 rfl rfl)
theorem dX0_unknown_13 : decode cX0_unknown 13 = .ok (.i2l, 1) := dk_133 (dk_at dksX0_unknown_0 13 rfl rfl)
theorem dX0_unknown_14 : decode cX0_unknown 14 = .ok (.lconst 0, 1) := dk_9 (dk_at dksX0_unknown_0 14 rfl rfl)
theorem dX0_unknown_15 : decode cX0_unknown 15 = .ok (.ldc2_w 240, 3) := dk_20 0 240 (dk_at dksX0_unknown_0 15 rfl rfl)
theorem dX0_unknown_18 : decode cX0_unknown 18 = .ok (.invokestatic 9, 3) := dk_184 0 9 (dk_at dksX0_unknown_0 18 rfl rfl)
theorem dX0_unknown_21 : decode cX0_unknown 21 = .ok (.ifCond .ne 5, 3) := dk_154 0 5 (dk_at dksX0_unknown_0 21 rfl rfl)
theorem dX0_unknown_24 : decode cX0_unknown 24 = .ok (.iconst (-1), 1) := dk_2 (dk_at dksX0_unknown_1 0 rfl rfl)
theorem dX0_unknown_25 : decode cX0_unknown 25 = .ok (.ireturn, 1) := dk_172 (dk_at dksX0_unknown_1 1 rfl rfl)
theorem dX0_unknown_26 : decode cX0_unknown 26 = .ok (.aload_n 0, 1) := dk_42 (dk_at dksX0_unknown_1 2 rfl rfl)
theorem dX0_unknown_27 : decode cX0_unknown 27 = .ok (.iload_n 2, 1) := dk_28 (dk_at dksX0_unknown_1 3 rfl rfl)
theorem dX0_unknown_28 : decode cX0_unknown 28 = .ok (.invokevirtual 298, 3) := dk_182 1 42 (dk_at dksX0_unknown_1 4 rfl rfl)
theorem dX0_unknown_31 : decode cX0_unknown 31 = .ok (.iload_n 1, 1) := dk_27 (dk_at dksX0_unknown_1 7 rfl rfl)
theorem dX0_unknown_32 : decode cX0_unknown 32 = .ok (.aload_n 0, 1) := dk_42 (dk_at dksX0_unknown_1 8 rfl rfl)
theorem dX0_unknown_33 : decode cX0_unknown 33 = .ok (.getfield 148, 3) := dk_180 0 148 (dk_at dksX0_unknown_1 9 rfl rfl)
theorem dX0_unknown_36 : decode cX0_unknown 36 = .ok (.iload_n 2, 1) := dk_28 (dk_at dksX0_unknown_1 12 rfl rfl)
theorem dX0_unknown_37 : decode cX0_unknown 37 = .ok (.iaload, 1) := dk_46 (dk_at dksX0_unknown_1 13 rfl rfl)
theorem dX0_unknown_38 : decode cX0_unknown 38 = .ok (.if_icmp .lt 12, 3) := dk_161 0 12 (dk_at dksX0_unknown_1 14 rfl rfl)
theorem dX0_unknown_41 : decode cX0_unknown 41 = .ok (.aload_n 0, 1) := dk_42 (dk_at dksX0_unknown_1 17 rfl rfl)
theorem dX0_unknown_42 : decode cX0_unknown 42 = .ok (.getfield 151, 3) := dk_180 0 151 (dk_at dksX0_unknown_1 18 rfl rfl)
theorem dX0_unknown_45 : decode cX0_unknown 45 = .ok (.iload_n 2, 1) := dk_28 (dk_at dksX0_unknown_1 21 rfl rfl)
theorem dX0_unknown_46 : decode cX0_unknown 46 = .ok (.iaload, 1) := dk_46 (dk_at dksX0_unknown_1 22 rfl rfl)
theorem dX0_unknown_47 : decode cX0_unknown 47 = .ok (.goto 4, 3) := dk_167 0 4 (dk_at dksX0_unknown_2 0 rfl rfl)
theorem dX0_unknown_50 : decode cX0_unknown 50 = .ok (.iconst 0, 1) := dk_3 (dk_at dksX0_unknown_2 3 rfl rfl)
theorem dX0_unknown_51 : decode cX0_unknown 51 = .ok (.ireturn, 1) := dk_172 (dk_at dksX0_unknown_2 4 rfl rfl)
abbrev cX0_takes : ByteArray := prog_1_method_28_code
def yX0_takes : MethodName := ⟨RX0, "takes", "(III)I"⟩
def dkwX0_takes_1 : List UInt8 := [42, 182, 1, 58, 42, 42, 180, 0, 53, 27, 50, 28, 29, 182, 1, 61, 172]
abbrev dktX0_takes_1 : List UInt8 := dkwX0_takes_1 ++ []
def dkwX0_takes_0 : List UInt8 := [42, 27, 182, 0, 61, 153, 0, 17, 28, 184, 1, 52, 153, 0, 10, 29, 184, 1, 55, 154, 0, 5, 2, 172]
abbrev dktX0_takes_0 : List UInt8 := dkwX0_takes_0 ++ dktX0_takes_1
theorem dksX0_takes_0 : cX0_takes.data.toList.drop 0 = dktX0_takes_0 := by decide +kernel
theorem dksX0_takes_1 : cX0_takes.data.toList.drop 24 = dktX0_takes_1 := dk_seg dksX0_takes_0 24 rfl rfl
theorem dX0_takes_0 : decode cX0_takes 0 = .ok (.aload_n 0, 1) := dk_42 (dk_at dksX0_takes_0 0 rfl rfl)
theorem dX0_takes_1 : decode cX0_takes 1 = .ok (.iload_n 1, 1) := dk_27 (dk_at dksX0_takes_0 1 rfl rfl)
theorem dX0_takes_2 : decode cX0_takes 2 = .ok (.invokevirtual 61, 3) := dk_182 0 61 (dk_at dksX0_takes_0 2 rfl rfl)
theorem dX0_takes_5 : decode cX0_takes 5 = .ok (.ifCond .eq 17, 3) := dk_153 0 17 (dk_at dksX0_takes_0 5 rfl rfl)
theorem dX0_takes_8 : decode cX0_takes 8 = .ok (.iload_n 2, 1) := dk_28 (dk_at dksX0_takes_0 8 rfl rfl)
theorem dX0_takes_9 : decode cX0_takes 9 = .ok (.invokestatic 308, 3) := dk_184 1 52 (dk_at dksX0_takes_0 9 rfl rfl)
theorem dX0_takes_12 : decode cX0_takes 12 = .ok (.ifCond .eq 10, 3) := dk_153 0 10 (dk_at dksX0_takes_0 12 rfl rfl)
theorem dX0_takes_15 : decode cX0_takes 15 = .ok (.iload_n 3, 1) := dk_29 (dk_at dksX0_takes_0 15 rfl rfl)
theorem dX0_takes_16 : decode cX0_takes 16 = .ok (.invokestatic 311, 3) := dk_184 1 55 (dk_at dksX0_takes_0 16 rfl rfl)
theorem dX0_takes_19 : decode cX0_takes 19 = .ok (.ifCond .ne 5, 3) := dk_154 0 5 (dk_at dksX0_takes_0 19 rfl rfl)
theorem dX0_takes_22 : decode cX0_takes 22 = .ok (.iconst (-1), 1) := dk_2 (dk_at dksX0_takes_0 22 rfl rfl)
theorem dX0_takes_23 : decode cX0_takes 23 = .ok (.ireturn, 1) := dk_172 (dk_at dksX0_takes_0 23 rfl rfl)
theorem dX0_takes_24 : decode cX0_takes 24 = .ok (.aload_n 0, 1) := dk_42 (dk_at dksX0_takes_1 0 rfl rfl)
theorem dX0_takes_25 : decode cX0_takes 25 = .ok (.invokevirtual 314, 3) := dk_182 1 58 (dk_at dksX0_takes_1 1 rfl rfl)
theorem dX0_takes_28 : decode cX0_takes 28 = .ok (.aload_n 0, 1) := dk_42 (dk_at dksX0_takes_1 4 rfl rfl)
theorem dX0_takes_29 : decode cX0_takes 29 = .ok (.aload_n 0, 1) := dk_42 (dk_at dksX0_takes_1 5 rfl rfl)
theorem dX0_takes_30 : decode cX0_takes 30 = .ok (.getfield 53, 3) := dk_180 0 53 (dk_at dksX0_takes_1 6 rfl rfl)
theorem dX0_takes_33 : decode cX0_takes 33 = .ok (.iload_n 1, 1) := dk_27 (dk_at dksX0_takes_1 9 rfl rfl)
theorem dX0_takes_34 : decode cX0_takes 34 = .ok (.aaload, 1) := dk_50 (dk_at dksX0_takes_1 10 rfl rfl)
theorem dX0_takes_35 : decode cX0_takes 35 = .ok (.iload_n 2, 1) := dk_28 (dk_at dksX0_takes_1 11 rfl rfl)
theorem dX0_takes_36 : decode cX0_takes 36 = .ok (.iload_n 3, 1) := dk_29 (dk_at dksX0_takes_1 12 rfl rfl)
theorem dX0_takes_37 : decode cX0_takes 37 = .ok (.invokevirtual 317, 3) := dk_182 1 61 (dk_at dksX0_takes_1 13 rfl rfl)
theorem dX0_takes_40 : decode cX0_takes 40 = .ok (.ireturn, 1) := dk_172 (dk_at dksX0_takes_1 16 rfl rfl)
abbrev cX0_isStrength : ByteArray := prog_1_method_6_code
def yX0_isStrength : MethodName := ⟨RX0, "isStrength", "(I)Z"⟩
def dkwX0_isStrength_0 : List UInt8 := [26, 133, 9, 20, 0, 21, 184, 0, 9, 172]
abbrev dktX0_isStrength_0 : List UInt8 := dkwX0_isStrength_0 ++ []
theorem dksX0_isStrength_0 : cX0_isStrength.data.toList.drop 0 = dktX0_isStrength_0 := by decide +kernel
theorem dX0_isStrength_0 : decode cX0_isStrength 0 = .ok (.iload_n 0, 1) := dk_26 (dk_at dksX0_isStrength_0 0 rfl rfl)
theorem dX0_isStrength_1 : decode cX0_isStrength 1 = .ok (.i2l, 1) := dk_133 (dk_at dksX0_isStrength_0 1 rfl rfl)
theorem dX0_isStrength_2 : decode cX0_isStrength 2 = .ok (.lconst 0, 1) := dk_9 (dk_at dksX0_isStrength_0 2 rfl rfl)
theorem dX0_isStrength_3 : decode cX0_isStrength 3 = .ok (.ldc2_w 21, 3) := dk_20 0 21 (dk_at dksX0_isStrength_0 3 rfl rfl)
theorem dX0_isStrength_6 : decode cX0_isStrength 6 = .ok (.invokestatic 9, 3) := dk_184 0 9 (dk_at dksX0_isStrength_0 6 rfl rfl)
theorem dX0_isStrength_9 : decode cX0_isStrength 9 = .ok (.ireturn, 1) := dk_172 (dk_at dksX0_isStrength_0 9 rfl rfl)
abbrev cX0_isQuarter : ByteArray := prog_1_method_5_code
def yX0_isQuarter : MethodName := ⟨RX0, "isQuarter", "(I)Z"⟩
def dkwX0_isQuarter_0 : List UInt8 := [26, 133, 9, 20, 0, 19, 184, 0, 9, 172]
abbrev dktX0_isQuarter_0 : List UInt8 := dkwX0_isQuarter_0 ++ []
theorem dksX0_isQuarter_0 : cX0_isQuarter.data.toList.drop 0 = dktX0_isQuarter_0 := by decide +kernel
theorem dX0_isQuarter_0 : decode cX0_isQuarter 0 = .ok (.iload_n 0, 1) := dk_26 (dk_at dksX0_isQuarter_0 0 rfl rfl)
theorem dX0_isQuarter_1 : decode cX0_isQuarter 1 = .ok (.i2l, 1) := dk_133 (dk_at dksX0_isQuarter_0 1 rfl rfl)
theorem dX0_isQuarter_2 : decode cX0_isQuarter 2 = .ok (.lconst 0, 1) := dk_9 (dk_at dksX0_isQuarter_0 2 rfl rfl)
theorem dX0_isQuarter_3 : decode cX0_isQuarter 3 = .ok (.ldc2_w 19, 3) := dk_20 0 19 (dk_at dksX0_isQuarter_0 3 rfl rfl)
theorem dX0_isQuarter_6 : decode cX0_isQuarter 6 = .ok (.invokestatic 9, 3) := dk_184 0 9 (dk_at dksX0_isQuarter_0 6 rfl rfl)
theorem dX0_isQuarter_9 : decode cX0_isQuarter 9 = .ok (.ireturn, 1) := dk_172 (dk_at dksX0_isQuarter_0 9 rfl rfl)
abbrev cX0_lookAll : ByteArray := prog_1_method_24_code
def yX0_lookAll : MethodName := ⟨RX0, "lookAll", "()V"⟩
def dkwX0_lookAll_0 : List UInt8 := [3, 60, 27, 6, 162, 0, 14, 42, 27, 182, 1, 42, 132, 1, 1, 167, 255, 243, 177]
abbrev dktX0_lookAll_0 : List UInt8 := dkwX0_lookAll_0 ++ []
theorem dksX0_lookAll_0 : cX0_lookAll.data.toList.drop 0 = dktX0_lookAll_0 := by decide +kernel
theorem dX0_lookAll_0 : decode cX0_lookAll 0 = .ok (.iconst 0, 1) := dk_3 (dk_at dksX0_lookAll_0 0 rfl rfl)
theorem dX0_lookAll_1 : decode cX0_lookAll 1 = .ok (.istore_n 1, 1) := dk_60 (dk_at dksX0_lookAll_0 1 rfl rfl)
theorem dX0_lookAll_2 : decode cX0_lookAll 2 = .ok (.iload_n 1, 1) := dk_27 (dk_at dksX0_lookAll_0 2 rfl rfl)
theorem dX0_lookAll_3 : decode cX0_lookAll 3 = .ok (.iconst 3, 1) := dk_6 (dk_at dksX0_lookAll_0 3 rfl rfl)
theorem dX0_lookAll_4 : decode cX0_lookAll 4 = .ok (.if_icmp .ge 14, 3) := dk_162 0 14 (dk_at dksX0_lookAll_0 4 rfl rfl)
theorem dX0_lookAll_7 : decode cX0_lookAll 7 = .ok (.aload_n 0, 1) := dk_42 (dk_at dksX0_lookAll_0 7 rfl rfl)
theorem dX0_lookAll_8 : decode cX0_lookAll 8 = .ok (.iload_n 1, 1) := dk_27 (dk_at dksX0_lookAll_0 8 rfl rfl)
theorem dX0_lookAll_9 : decode cX0_lookAll 9 = .ok (.invokevirtual 298, 3) := dk_182 1 42 (dk_at dksX0_lookAll_0 9 rfl rfl)
theorem dX0_lookAll_12 : decode cX0_lookAll 12 = .ok (.iinc 1 1, 3) := dk_132 1 1 (dk_at dksX0_lookAll_0 12 rfl rfl)
theorem dX0_lookAll_15 : decode cX0_lookAll 15 = .ok (.goto (-13), 3) := dk_167 255 243 (dk_at dksX0_lookAll_0 15 rfl rfl)
theorem dX0_lookAll_18 : decode cX0_lookAll 18 = .ok (.return_, 1) := dk_177 (dk_at dksX0_lookAll_0 18 rfl rfl)
abbrev cX0_takesOf : ByteArray := prog_1_method_27_code
def yX0_takesOf : MethodName := ⟨RX0, "takesOf", "(LValleyGuides$Step;II)I"⟩
def dkwX0_takesOf_0 : List UInt8 := [43, 28, 29, 42, 180, 0, 145, 29, 7, 108, 50, 182, 1, 48, 172]
abbrev dktX0_takesOf_0 : List UInt8 := dkwX0_takesOf_0 ++ []
theorem dksX0_takesOf_0 : cX0_takesOf.data.toList.drop 0 = dktX0_takesOf_0 := by decide +kernel
theorem dX0_takesOf_0 : decode cX0_takesOf 0 = .ok (.aload_n 1, 1) := dk_43 (dk_at dksX0_takesOf_0 0 rfl rfl)
theorem dX0_takesOf_1 : decode cX0_takesOf 1 = .ok (.iload_n 2, 1) := dk_28 (dk_at dksX0_takesOf_0 1 rfl rfl)
theorem dX0_takesOf_2 : decode cX0_takesOf 2 = .ok (.iload_n 3, 1) := dk_29 (dk_at dksX0_takesOf_0 2 rfl rfl)
theorem dX0_takesOf_3 : decode cX0_takesOf 3 = .ok (.aload_n 0, 1) := dk_42 (dk_at dksX0_takesOf_0 3 rfl rfl)
theorem dX0_takesOf_4 : decode cX0_takesOf 4 = .ok (.getfield 145, 3) := dk_180 0 145 (dk_at dksX0_takesOf_0 4 rfl rfl)
theorem dX0_takesOf_7 : decode cX0_takesOf 7 = .ok (.iload_n 3, 1) := dk_29 (dk_at dksX0_takesOf_0 7 rfl rfl)
theorem dX0_takesOf_8 : decode cX0_takesOf 8 = .ok (.iconst 4, 1) := dk_7 (dk_at dksX0_takesOf_0 8 rfl rfl)
theorem dX0_takesOf_9 : decode cX0_takesOf 9 = .ok (.idiv, 1) := dk_108 (dk_at dksX0_takesOf_0 9 rfl rfl)
theorem dX0_takesOf_10 : decode cX0_takesOf 10 = .ok (.aaload, 1) := dk_50 (dk_at dksX0_takesOf_0 10 rfl rfl)
theorem dX0_takesOf_11 : decode cX0_takesOf 11 = .ok (.invokevirtual 304, 3) := dk_182 1 48 (dk_at dksX0_takesOf_0 11 rfl rfl)
theorem dX0_takesOf_14 : decode cX0_takesOf 14 = .ok (.ireturn, 1) := dk_172 (dk_at dksX0_takesOf_0 14 rfl rfl)
abbrev cX0_hour : ByteArray := prog_1_method_30_code
def yX0_hour : MethodName := ⟨RX0, "hour", "(III)I"⟩
def dkwX0_hour_1 : List UInt8 := [42, 182, 1, 58, 42, 42, 180, 0, 86, 27, 50, 28, 29, 182, 1, 65, 172]
abbrev dktX0_hour_1 : List UInt8 := dkwX0_hour_1 ++ []
def dkwX0_hour_0 : List UInt8 := [42, 27, 182, 0, 104, 153, 0, 17, 28, 184, 1, 52, 153, 0, 10, 29, 184, 1, 55, 154, 0, 5, 2, 172]
abbrev dktX0_hour_0 : List UInt8 := dkwX0_hour_0 ++ dktX0_hour_1
theorem dksX0_hour_0 : cX0_hour.data.toList.drop 0 = dktX0_hour_0 := by decide +kernel
theorem dksX0_hour_1 : cX0_hour.data.toList.drop 24 = dktX0_hour_1 := dk_seg dksX0_hour_0 24 rfl rfl
theorem dX0_hour_0 : decode cX0_hour 0 = .ok (.aload_n 0, 1) := dk_42 (dk_at dksX0_hour_0 0 rfl rfl)
theorem dX0_hour_1 : decode cX0_hour 1 = .ok (.iload_n 1, 1) := dk_27 (dk_at dksX0_hour_0 1 rfl rfl)
theorem dX0_hour_2 : decode cX0_hour 2 = .ok (.invokevirtual 104, 3) := dk_182 0 104 (dk_at dksX0_hour_0 2 rfl rfl)
theorem dX0_hour_5 : decode cX0_hour 5 = .ok (.ifCond .eq 17, 3) := dk_153 0 17 (dk_at dksX0_hour_0 5 rfl rfl)
theorem dX0_hour_8 : decode cX0_hour 8 = .ok (.iload_n 2, 1) := dk_28 (dk_at dksX0_hour_0 8 rfl rfl)
theorem dX0_hour_9 : decode cX0_hour 9 = .ok (.invokestatic 308, 3) := dk_184 1 52 (dk_at dksX0_hour_0 9 rfl rfl)
theorem dX0_hour_12 : decode cX0_hour 12 = .ok (.ifCond .eq 10, 3) := dk_153 0 10 (dk_at dksX0_hour_0 12 rfl rfl)
theorem dX0_hour_15 : decode cX0_hour 15 = .ok (.iload_n 3, 1) := dk_29 (dk_at dksX0_hour_0 15 rfl rfl)
theorem dX0_hour_16 : decode cX0_hour 16 = .ok (.invokestatic 311, 3) := dk_184 1 55 (dk_at dksX0_hour_0 16 rfl rfl)
theorem dX0_hour_19 : decode cX0_hour 19 = .ok (.ifCond .ne 5, 3) := dk_154 0 5 (dk_at dksX0_hour_0 19 rfl rfl)
theorem dX0_hour_22 : decode cX0_hour 22 = .ok (.iconst (-1), 1) := dk_2 (dk_at dksX0_hour_0 22 rfl rfl)
theorem dX0_hour_23 : decode cX0_hour 23 = .ok (.ireturn, 1) := dk_172 (dk_at dksX0_hour_0 23 rfl rfl)
theorem dX0_hour_24 : decode cX0_hour 24 = .ok (.aload_n 0, 1) := dk_42 (dk_at dksX0_hour_1 0 rfl rfl)
theorem dX0_hour_25 : decode cX0_hour 25 = .ok (.invokevirtual 314, 3) := dk_182 1 58 (dk_at dksX0_hour_1 1 rfl rfl)
theorem dX0_hour_28 : decode cX0_hour 28 = .ok (.aload_n 0, 1) := dk_42 (dk_at dksX0_hour_1 4 rfl rfl)
theorem dX0_hour_29 : decode cX0_hour 29 = .ok (.aload_n 0, 1) := dk_42 (dk_at dksX0_hour_1 5 rfl rfl)
theorem dX0_hour_30 : decode cX0_hour 30 = .ok (.getfield 86, 3) := dk_180 0 86 (dk_at dksX0_hour_1 6 rfl rfl)
theorem dX0_hour_33 : decode cX0_hour 33 = .ok (.iload_n 1, 1) := dk_27 (dk_at dksX0_hour_1 9 rfl rfl)
theorem dX0_hour_34 : decode cX0_hour 34 = .ok (.aaload, 1) := dk_50 (dk_at dksX0_hour_1 10 rfl rfl)
theorem dX0_hour_35 : decode cX0_hour 35 = .ok (.iload_n 2, 1) := dk_28 (dk_at dksX0_hour_1 11 rfl rfl)
theorem dX0_hour_36 : decode cX0_hour 36 = .ok (.iload_n 3, 1) := dk_29 (dk_at dksX0_hour_1 12 rfl rfl)
theorem dX0_hour_37 : decode cX0_hour 37 = .ok (.invokevirtual 321, 3) := dk_182 1 65 (dk_at dksX0_hour_1 13 rfl rfl)
theorem dX0_hour_40 : decode cX0_hour 40 = .ok (.ireturn, 1) := dk_172 (dk_at dksX0_hour_1 16 rfl rfl)
abbrev cX0_hourOf : ByteArray := prog_1_method_29_code
def yX0_hourOf : MethodName := ⟨RX0, "hourOf", "(LValleyGuides$Route;II)I"⟩
def dkwX0_hourOf_3 : List UInt8 := [96, 54, 4, 132, 5, 1, 167, 255, 184, 21, 4, 172]
abbrev dktX0_hourOf_3 : List UInt8 := dkwX0_hourOf_3 ++ []
def dkwX0_hourOf_2 : List UInt8 := [167, 0, 5, 16, 251, 54, 6, 21, 6, 16, 251, 160, 0, 9, 16, 156, 21, 5, 100, 172, 21, 4, 21, 6]
abbrev dktX0_hourOf_2 : List UInt8 := dkwX0_hourOf_2 ++ dktX0_hourOf_3
def dkwX0_hourOf_1 : List UInt8 := [162, 0, 27, 42, 43, 180, 0, 95, 21, 5, 185, 0, 125, 2, 0, 192, 0, 65, 28, 21, 4, 182, 1, 61]
abbrev dktX0_hourOf_1 : List UInt8 := dkwX0_hourOf_1 ++ dktX0_hourOf_2
def dkwX0_hourOf_0 : List UInt8 := [29, 54, 4, 3, 54, 5, 21, 5, 43, 180, 0, 95, 185, 0, 110, 1, 0, 162, 0, 64, 21, 4, 16, 96]
abbrev dktX0_hourOf_0 : List UInt8 := dkwX0_hourOf_0 ++ dktX0_hourOf_1
theorem dksX0_hourOf_0 : cX0_hourOf.data.toList.drop 0 = dktX0_hourOf_0 := by decide +kernel
theorem dksX0_hourOf_1 : cX0_hourOf.data.toList.drop 24 = dktX0_hourOf_1 := dk_seg dksX0_hourOf_0 24 rfl rfl
theorem dksX0_hourOf_2 : cX0_hourOf.data.toList.drop 48 = dktX0_hourOf_2 := dk_seg dksX0_hourOf_1 24 rfl rfl
theorem dksX0_hourOf_3 : cX0_hourOf.data.toList.drop 72 = dktX0_hourOf_3 := dk_seg dksX0_hourOf_2 24 rfl rfl
theorem dX0_hourOf_0 : decode cX0_hourOf 0 = .ok (.iload_n 3, 1) := dk_29 (dk_at dksX0_hourOf_0 0 rfl rfl)
theorem dX0_hourOf_1 : decode cX0_hourOf 1 = .ok (.istore 4, 2) := dk_54 4 (dk_at dksX0_hourOf_0 1 rfl rfl)
theorem dX0_hourOf_3 : decode cX0_hourOf 3 = .ok (.iconst 0, 1) := dk_3 (dk_at dksX0_hourOf_0 3 rfl rfl)
theorem dX0_hourOf_4 : decode cX0_hourOf 4 = .ok (.istore 5, 2) := dk_54 5 (dk_at dksX0_hourOf_0 4 rfl rfl)
theorem dX0_hourOf_6 : decode cX0_hourOf 6 = .ok (.iload 5, 2) := dk_21 5 (dk_at dksX0_hourOf_0 6 rfl rfl)
theorem dX0_hourOf_8 : decode cX0_hourOf 8 = .ok (.aload_n 1, 1) := dk_43 (dk_at dksX0_hourOf_0 8 rfl rfl)
theorem dX0_hourOf_9 : decode cX0_hourOf 9 = .ok (.getfield 95, 3) := dk_180 0 95 (dk_at dksX0_hourOf_0 9 rfl rfl)
theorem dX0_hourOf_12 : decode cX0_hourOf 12 = .ok (.invokeinterface 110 1, 5) := by decide +kernel
theorem dX0_hourOf_17 : decode cX0_hourOf 17 = .ok (.if_icmp .ge 64, 3) := dk_162 0 64 (dk_at dksX0_hourOf_0 17 rfl rfl)
theorem dX0_hourOf_20 : decode cX0_hourOf 20 = .ok (.iload 4, 2) := dk_21 4 (dk_at dksX0_hourOf_0 20 rfl rfl)
theorem dX0_hourOf_22 : decode cX0_hourOf 22 = .ok (.bipush 96, 2) := dk_16 96 (dk_at dksX0_hourOf_0 22 rfl rfl)
theorem dX0_hourOf_24 : decode cX0_hourOf 24 = .ok (.if_icmp .ge 27, 3) := dk_162 0 27 (dk_at dksX0_hourOf_1 0 rfl rfl)
theorem dX0_hourOf_27 : decode cX0_hourOf 27 = .ok (.aload_n 0, 1) := dk_42 (dk_at dksX0_hourOf_1 3 rfl rfl)
theorem dX0_hourOf_28 : decode cX0_hourOf 28 = .ok (.aload_n 1, 1) := dk_43 (dk_at dksX0_hourOf_1 4 rfl rfl)
theorem dX0_hourOf_29 : decode cX0_hourOf 29 = .ok (.getfield 95, 3) := dk_180 0 95 (dk_at dksX0_hourOf_1 5 rfl rfl)
theorem dX0_hourOf_32 : decode cX0_hourOf 32 = .ok (.iload 5, 2) := dk_21 5 (dk_at dksX0_hourOf_1 8 rfl rfl)
theorem dX0_hourOf_34 : decode cX0_hourOf 34 = .ok (.invokeinterface 125 2, 5) := by decide +kernel
theorem dX0_hourOf_39 : decode cX0_hourOf 39 = .ok (.checkcast 65, 3) := dk_192 0 65 (dk_at dksX0_hourOf_1 15 rfl rfl)
theorem dX0_hourOf_42 : decode cX0_hourOf 42 = .ok (.iload_n 2, 1) := dk_28 (dk_at dksX0_hourOf_1 18 rfl rfl)
theorem dX0_hourOf_43 : decode cX0_hourOf 43 = .ok (.iload 4, 2) := dk_21 4 (dk_at dksX0_hourOf_1 19 rfl rfl)
theorem dX0_hourOf_45 : decode cX0_hourOf 45 = .ok (.invokevirtual 317, 3) := dk_182 1 61 (dk_at dksX0_hourOf_1 21 rfl rfl)
theorem dX0_hourOf_48 : decode cX0_hourOf 48 = .ok (.goto 5, 3) := dk_167 0 5 (dk_at dksX0_hourOf_2 0 rfl rfl)
theorem dX0_hourOf_51 : decode cX0_hourOf 51 = .ok (.bipush (-5), 2) := dk_16 251 (dk_at dksX0_hourOf_2 3 rfl rfl)
theorem dX0_hourOf_53 : decode cX0_hourOf 53 = .ok (.istore 6, 2) := dk_54 6 (dk_at dksX0_hourOf_2 5 rfl rfl)
theorem dX0_hourOf_55 : decode cX0_hourOf 55 = .ok (.iload 6, 2) := dk_21 6 (dk_at dksX0_hourOf_2 7 rfl rfl)
theorem dX0_hourOf_57 : decode cX0_hourOf 57 = .ok (.bipush (-5), 2) := dk_16 251 (dk_at dksX0_hourOf_2 9 rfl rfl)
theorem dX0_hourOf_59 : decode cX0_hourOf 59 = .ok (.if_icmp .ne 9, 3) := dk_160 0 9 (dk_at dksX0_hourOf_2 11 rfl rfl)
theorem dX0_hourOf_62 : decode cX0_hourOf 62 = .ok (.bipush (-100), 2) := dk_16 156 (dk_at dksX0_hourOf_2 14 rfl rfl)
theorem dX0_hourOf_64 : decode cX0_hourOf 64 = .ok (.iload 5, 2) := dk_21 5 (dk_at dksX0_hourOf_2 16 rfl rfl)
theorem dX0_hourOf_66 : decode cX0_hourOf 66 = .ok (.isub, 1) := dk_100 (dk_at dksX0_hourOf_2 18 rfl rfl)
theorem dX0_hourOf_67 : decode cX0_hourOf 67 = .ok (.ireturn, 1) := dk_172 (dk_at dksX0_hourOf_2 19 rfl rfl)
theorem dX0_hourOf_68 : decode cX0_hourOf 68 = .ok (.iload 4, 2) := dk_21 4 (dk_at dksX0_hourOf_2 20 rfl rfl)
theorem dX0_hourOf_70 : decode cX0_hourOf 70 = .ok (.iload 6, 2) := dk_21 6 (dk_at dksX0_hourOf_2 22 rfl rfl)
theorem dX0_hourOf_72 : decode cX0_hourOf 72 = .ok (.iadd, 1) := dk_96 (dk_at dksX0_hourOf_3 0 rfl rfl)
theorem dX0_hourOf_73 : decode cX0_hourOf 73 = .ok (.istore 4, 2) := dk_54 4 (dk_at dksX0_hourOf_3 1 rfl rfl)
theorem dX0_hourOf_75 : decode cX0_hourOf 75 = .ok (.iinc 5 1, 3) := dk_132 5 1 (dk_at dksX0_hourOf_3 3 rfl rfl)
theorem dX0_hourOf_78 : decode cX0_hourOf 78 = .ok (.goto (-72), 3) := dk_167 255 184 (dk_at dksX0_hourOf_3 6 rfl rfl)
theorem dX0_hourOf_81 : decode cX0_hourOf 81 = .ok (.iload 4, 2) := dk_21 4 (dk_at dksX0_hourOf_3 9 rfl rfl)
theorem dX0_hourOf_83 : decode cX0_hourOf 83 = .ok (.ireturn, 1) := dk_172 (dk_at dksX0_hourOf_3 11 rfl rfl)
abbrev cX0_late : ByteArray := prog_1_method_31_code
def yX0_late : MethodName := ⟨RX0, "late", "(III)I"⟩
def dkwX0_late_3 : List UInt8 := [172]
abbrev dktX0_late_3 : List UInt8 := dkwX0_late_3 ++ []
def dkwX0_late_2 : List UInt8 := [182, 1, 65, 133, 9, 29, 133, 184, 0, 9, 153, 0, 6, 21, 4, 172, 132, 4, 255, 167, 255, 222, 16, 252]
abbrev dktX0_late_2 : List UInt8 := dkwX0_late_2 ++ dktX0_late_3
def dkwX0_late_1 : List UInt8 := [42, 182, 1, 58, 29, 54, 4, 21, 4, 155, 0, 35, 42, 42, 180, 0, 86, 27, 50, 28, 21, 4]
abbrev dktX0_late_1 : List UInt8 := dkwX0_late_1 ++ dktX0_late_2
def dkwX0_late_0 : List UInt8 := [42, 27, 182, 0, 104, 153, 0, 17, 28, 184, 1, 52, 153, 0, 10, 29, 184, 1, 55, 154, 0, 5, 2, 172]
abbrev dktX0_late_0 : List UInt8 := dkwX0_late_0 ++ dktX0_late_1
theorem dksX0_late_0 : cX0_late.data.toList.drop 0 = dktX0_late_0 := by decide +kernel
theorem dksX0_late_1 : cX0_late.data.toList.drop 24 = dktX0_late_1 := dk_seg dksX0_late_0 24 rfl rfl
theorem dksX0_late_2 : cX0_late.data.toList.drop 46 = dktX0_late_2 := dk_seg dksX0_late_1 22 rfl rfl
theorem dksX0_late_3 : cX0_late.data.toList.drop 70 = dktX0_late_3 := dk_seg dksX0_late_2 24 rfl rfl
theorem dX0_late_0 : decode cX0_late 0 = .ok (.aload_n 0, 1) := dk_42 (dk_at dksX0_late_0 0 rfl rfl)
theorem dX0_late_1 : decode cX0_late 1 = .ok (.iload_n 1, 1) := dk_27 (dk_at dksX0_late_0 1 rfl rfl)
theorem dX0_late_2 : decode cX0_late 2 = .ok (.invokevirtual 104, 3) := dk_182 0 104 (dk_at dksX0_late_0 2 rfl rfl)
theorem dX0_late_5 : decode cX0_late 5 = .ok (.ifCond .eq 17, 3) := dk_153 0 17 (dk_at dksX0_late_0 5 rfl rfl)
theorem dX0_late_8 : decode cX0_late 8 = .ok (.iload_n 2, 1) := dk_28 (dk_at dksX0_late_0 8 rfl rfl)
theorem dX0_late_9 : decode cX0_late 9 = .ok (.invokestatic 308, 3) := dk_184 1 52 (dk_at dksX0_late_0 9 rfl rfl)
theorem dX0_late_12 : decode cX0_late 12 = .ok (.ifCond .eq 10, 3) := dk_153 0 10 (dk_at dksX0_late_0 12 rfl rfl)
theorem dX0_late_15 : decode cX0_late 15 = .ok (.iload_n 3, 1) := dk_29 (dk_at dksX0_late_0 15 rfl rfl)
theorem dX0_late_16 : decode cX0_late 16 = .ok (.invokestatic 311, 3) := dk_184 1 55 (dk_at dksX0_late_0 16 rfl rfl)
theorem dX0_late_19 : decode cX0_late 19 = .ok (.ifCond .ne 5, 3) := dk_154 0 5 (dk_at dksX0_late_0 19 rfl rfl)
theorem dX0_late_22 : decode cX0_late 22 = .ok (.iconst (-1), 1) := dk_2 (dk_at dksX0_late_0 22 rfl rfl)
theorem dX0_late_23 : decode cX0_late 23 = .ok (.ireturn, 1) := dk_172 (dk_at dksX0_late_0 23 rfl rfl)
theorem dX0_late_24 : decode cX0_late 24 = .ok (.aload_n 0, 1) := dk_42 (dk_at dksX0_late_1 0 rfl rfl)
theorem dX0_late_25 : decode cX0_late 25 = .ok (.invokevirtual 314, 3) := dk_182 1 58 (dk_at dksX0_late_1 1 rfl rfl)
theorem dX0_late_28 : decode cX0_late 28 = .ok (.iload_n 3, 1) := dk_29 (dk_at dksX0_late_1 4 rfl rfl)
theorem dX0_late_29 : decode cX0_late 29 = .ok (.istore 4, 2) := dk_54 4 (dk_at dksX0_late_1 5 rfl rfl)
theorem dX0_late_31 : decode cX0_late 31 = .ok (.iload 4, 2) := dk_21 4 (dk_at dksX0_late_1 7 rfl rfl)
theorem dX0_late_33 : decode cX0_late 33 = .ok (.ifCond .lt 35, 3) := dk_155 0 35 (dk_at dksX0_late_1 9 rfl rfl)
theorem dX0_late_36 : decode cX0_late 36 = .ok (.aload_n 0, 1) := dk_42 (dk_at dksX0_late_1 12 rfl rfl)
theorem dX0_late_37 : decode cX0_late 37 = .ok (.aload_n 0, 1) := dk_42 (dk_at dksX0_late_1 13 rfl rfl)
theorem dX0_late_38 : decode cX0_late 38 = .ok (.getfield 86, 3) := dk_180 0 86 (dk_at dksX0_late_1 14 rfl rfl)
theorem dX0_late_41 : decode cX0_late 41 = .ok (.iload_n 1, 1) := dk_27 (dk_at dksX0_late_1 17 rfl rfl)
theorem dX0_late_42 : decode cX0_late 42 = .ok (.aaload, 1) := dk_50 (dk_at dksX0_late_1 18 rfl rfl)
theorem dX0_late_43 : decode cX0_late 43 = .ok (.iload_n 2, 1) := dk_28 (dk_at dksX0_late_1 19 rfl rfl)
theorem dX0_late_44 : decode cX0_late 44 = .ok (.iload 4, 2) := dk_21 4 (dk_at dksX0_late_1 20 rfl rfl)
theorem dX0_late_46 : decode cX0_late 46 = .ok (.invokevirtual 321, 3) := dk_182 1 65 (dk_at dksX0_late_2 0 rfl rfl)
theorem dX0_late_49 : decode cX0_late 49 = .ok (.i2l, 1) := dk_133 (dk_at dksX0_late_2 3 rfl rfl)
theorem dX0_late_50 : decode cX0_late 50 = .ok (.lconst 0, 1) := dk_9 (dk_at dksX0_late_2 4 rfl rfl)
theorem dX0_late_51 : decode cX0_late 51 = .ok (.iload_n 3, 1) := dk_29 (dk_at dksX0_late_2 5 rfl rfl)
theorem dX0_late_52 : decode cX0_late 52 = .ok (.i2l, 1) := dk_133 (dk_at dksX0_late_2 6 rfl rfl)
theorem dX0_late_53 : decode cX0_late 53 = .ok (.invokestatic 9, 3) := dk_184 0 9 (dk_at dksX0_late_2 7 rfl rfl)
theorem dX0_late_56 : decode cX0_late 56 = .ok (.ifCond .eq 6, 3) := dk_153 0 6 (dk_at dksX0_late_2 10 rfl rfl)
theorem dX0_late_59 : decode cX0_late 59 = .ok (.iload 4, 2) := dk_21 4 (dk_at dksX0_late_2 13 rfl rfl)
theorem dX0_late_61 : decode cX0_late 61 = .ok (.ireturn, 1) := dk_172 (dk_at dksX0_late_2 15 rfl rfl)
theorem dX0_late_62 : decode cX0_late 62 = .ok (.iinc 4 (-1), 3) := dk_132 4 255 (dk_at dksX0_late_2 16 rfl rfl)
theorem dX0_late_65 : decode cX0_late 65 = .ok (.goto (-34), 3) := dk_167 255 222 (dk_at dksX0_late_2 19 rfl rfl)
theorem dX0_late_68 : decode cX0_late 68 = .ok (.bipush (-4), 2) := dk_16 252 (dk_at dksX0_late_2 22 rfl rfl)
theorem dX0_late_70 : decode cX0_late 70 = .ok (.ireturn, 1) := dk_172 (dk_at dksX0_late_3 0 rfl rfl)
abbrev cX0_way : ByteArray := prog_1_method_33_code
def yX0_way : MethodName := ⟨RX0, "way", "(IIII)I"⟩
def dkwX0_way_2 : List UInt8 := [180, 0, 154, 28, 46, 16, 96, 162, 0, 12, 42, 180, 0, 154, 28, 46, 167, 0, 5, 16, 252, 172]
abbrev dktX0_way_2 : List UInt8 := dkwX0_way_2 ++ []
def dkwX0_way_1 : List UInt8 := [21, 4, 184, 1, 55, 154, 0, 5, 2, 172, 42, 182, 1, 58, 42, 27, 29, 21, 4, 182, 1, 69, 42]
abbrev dktX0_way_1 : List UInt8 := dkwX0_way_1 ++ dktX0_way_2
def dkwX0_way_0 : List UInt8 := [42, 27, 182, 0, 45, 153, 0, 26, 42, 28, 182, 0, 45, 153, 0, 18, 29, 184, 1, 52, 153, 0, 11]
abbrev dktX0_way_0 : List UInt8 := dkwX0_way_0 ++ dktX0_way_1
theorem dksX0_way_0 : cX0_way.data.toList.drop 0 = dktX0_way_0 := by decide +kernel
theorem dksX0_way_1 : cX0_way.data.toList.drop 23 = dktX0_way_1 := dk_seg dksX0_way_0 23 rfl rfl
theorem dksX0_way_2 : cX0_way.data.toList.drop 46 = dktX0_way_2 := dk_seg dksX0_way_1 23 rfl rfl
theorem dX0_way_0 : decode cX0_way 0 = .ok (.aload_n 0, 1) := dk_42 (dk_at dksX0_way_0 0 rfl rfl)
theorem dX0_way_1 : decode cX0_way 1 = .ok (.iload_n 1, 1) := dk_27 (dk_at dksX0_way_0 1 rfl rfl)
theorem dX0_way_2 : decode cX0_way 2 = .ok (.invokevirtual 45, 3) := dk_182 0 45 (dk_at dksX0_way_0 2 rfl rfl)
theorem dX0_way_5 : decode cX0_way 5 = .ok (.ifCond .eq 26, 3) := dk_153 0 26 (dk_at dksX0_way_0 5 rfl rfl)
theorem dX0_way_8 : decode cX0_way 8 = .ok (.aload_n 0, 1) := dk_42 (dk_at dksX0_way_0 8 rfl rfl)
theorem dX0_way_9 : decode cX0_way 9 = .ok (.iload_n 2, 1) := dk_28 (dk_at dksX0_way_0 9 rfl rfl)
theorem dX0_way_10 : decode cX0_way 10 = .ok (.invokevirtual 45, 3) := dk_182 0 45 (dk_at dksX0_way_0 10 rfl rfl)
theorem dX0_way_13 : decode cX0_way 13 = .ok (.ifCond .eq 18, 3) := dk_153 0 18 (dk_at dksX0_way_0 13 rfl rfl)
theorem dX0_way_16 : decode cX0_way 16 = .ok (.iload_n 3, 1) := dk_29 (dk_at dksX0_way_0 16 rfl rfl)
theorem dX0_way_17 : decode cX0_way 17 = .ok (.invokestatic 308, 3) := dk_184 1 52 (dk_at dksX0_way_0 17 rfl rfl)
theorem dX0_way_20 : decode cX0_way 20 = .ok (.ifCond .eq 11, 3) := dk_153 0 11 (dk_at dksX0_way_0 20 rfl rfl)
theorem dX0_way_23 : decode cX0_way 23 = .ok (.iload 4, 2) := dk_21 4 (dk_at dksX0_way_1 0 rfl rfl)
theorem dX0_way_25 : decode cX0_way 25 = .ok (.invokestatic 311, 3) := dk_184 1 55 (dk_at dksX0_way_1 2 rfl rfl)
theorem dX0_way_28 : decode cX0_way 28 = .ok (.ifCond .ne 5, 3) := dk_154 0 5 (dk_at dksX0_way_1 5 rfl rfl)
theorem dX0_way_31 : decode cX0_way 31 = .ok (.iconst (-1), 1) := dk_2 (dk_at dksX0_way_1 8 rfl rfl)
theorem dX0_way_32 : decode cX0_way 32 = .ok (.ireturn, 1) := dk_172 (dk_at dksX0_way_1 9 rfl rfl)
theorem dX0_way_33 : decode cX0_way 33 = .ok (.aload_n 0, 1) := dk_42 (dk_at dksX0_way_1 10 rfl rfl)
theorem dX0_way_34 : decode cX0_way 34 = .ok (.invokevirtual 314, 3) := dk_182 1 58 (dk_at dksX0_way_1 11 rfl rfl)
theorem dX0_way_37 : decode cX0_way 37 = .ok (.aload_n 0, 1) := dk_42 (dk_at dksX0_way_1 14 rfl rfl)
theorem dX0_way_38 : decode cX0_way 38 = .ok (.iload_n 1, 1) := dk_27 (dk_at dksX0_way_1 15 rfl rfl)
theorem dX0_way_39 : decode cX0_way 39 = .ok (.iload_n 3, 1) := dk_29 (dk_at dksX0_way_1 16 rfl rfl)
theorem dX0_way_40 : decode cX0_way 40 = .ok (.iload 4, 2) := dk_21 4 (dk_at dksX0_way_1 17 rfl rfl)
theorem dX0_way_42 : decode cX0_way 42 = .ok (.invokevirtual 325, 3) := dk_182 1 69 (dk_at dksX0_way_1 19 rfl rfl)
theorem dX0_way_45 : decode cX0_way 45 = .ok (.aload_n 0, 1) := dk_42 (dk_at dksX0_way_1 22 rfl rfl)
theorem dX0_way_46 : decode cX0_way 46 = .ok (.getfield 154, 3) := dk_180 0 154 (dk_at dksX0_way_2 0 rfl rfl)
theorem dX0_way_49 : decode cX0_way 49 = .ok (.iload_n 2, 1) := dk_28 (dk_at dksX0_way_2 3 rfl rfl)
theorem dX0_way_50 : decode cX0_way 50 = .ok (.iaload, 1) := dk_46 (dk_at dksX0_way_2 4 rfl rfl)
theorem dX0_way_51 : decode cX0_way 51 = .ok (.bipush 96, 2) := dk_16 96 (dk_at dksX0_way_2 5 rfl rfl)
theorem dX0_way_53 : decode cX0_way 53 = .ok (.if_icmp .ge 12, 3) := dk_162 0 12 (dk_at dksX0_way_2 7 rfl rfl)
theorem dX0_way_56 : decode cX0_way 56 = .ok (.aload_n 0, 1) := dk_42 (dk_at dksX0_way_2 10 rfl rfl)
theorem dX0_way_57 : decode cX0_way 57 = .ok (.getfield 154, 3) := dk_180 0 154 (dk_at dksX0_way_2 11 rfl rfl)
theorem dX0_way_60 : decode cX0_way 60 = .ok (.iload_n 2, 1) := dk_28 (dk_at dksX0_way_2 14 rfl rfl)
theorem dX0_way_61 : decode cX0_way 61 = .ok (.iaload, 1) := dk_46 (dk_at dksX0_way_2 15 rfl rfl)
theorem dX0_way_62 : decode cX0_way 62 = .ok (.goto 5, 3) := dk_167 0 5 (dk_at dksX0_way_2 16 rfl rfl)
theorem dX0_way_65 : decode cX0_way 65 = .ok (.bipush (-4), 2) := dk_16 252 (dk_at dksX0_way_2 19 rfl rfl)
theorem dX0_way_67 : decode cX0_way 67 = .ok (.ireturn, 1) := dk_172 (dk_at dksX0_way_2 21 rfl rfl)
abbrev cX0_spread : ByteArray := prog_1_method_32_code
def yX0_spread : MethodName := ⟨RX0, "spread", "(III)V"⟩
def dkwX0_spread_11 : List UInt8 := [184, 1, 24, 79, 132, 6, 1, 167, 255, 153, 167, 255, 38, 177]
abbrev dktX0_spread_11 : List UInt8 := dkwX0_spread_11 ++ []
def dkwX0_spread_10 : List UInt8 := [180, 0, 154, 42, 180, 0, 53, 21, 6, 50, 180, 0, 69, 46, 42, 180, 0, 154, 21, 5, 46, 21, 7, 96]
abbrev dktX0_spread_10 : List UInt8 := dkwX0_spread_10 ++ dktX0_spread_11
def dkwX0_spread_9 : List UInt8 := [21, 7, 16, 251, 159, 0, 46, 42, 180, 0, 154, 42, 180, 0, 53, 21, 6, 50, 180, 0, 69, 42]
abbrev dktX0_spread_9 : List UInt8 := dkwX0_spread_9 ++ dktX0_spread_10
def dkwX0_spread_8 : List UInt8 := [180, 0, 53, 21, 6, 50, 28, 42, 180, 0, 154, 21, 5, 46, 182, 1, 61, 167, 0, 5, 16, 251, 54, 7]
abbrev dktX0_spread_8 : List UInt8 := dkwX0_spread_8 ++ dktX0_spread_9
def dkwX0_spread_7 : List UInt8 := [180, 0, 13, 162, 0, 100, 42, 180, 0, 53, 21, 6, 50, 180, 0, 64, 21, 5, 160, 0, 25, 42, 42]
abbrev dktX0_spread_7 : List UInt8 := dkwX0_spread_7 ++ dktX0_spread_8
def dkwX0_spread_6 : List UInt8 := [3, 54, 4, 21, 4, 153, 0, 120, 42, 180, 0, 157, 21, 5, 4, 84, 3, 54, 6, 21, 6, 42]
abbrev dktX0_spread_6 : List UInt8 := dkwX0_spread_6 ++ dktX0_spread_7
def dkwX0_spread_5 : List UInt8 := [167, 0, 5, 21, 5, 54, 5, 132, 6, 1, 167, 255, 189, 21, 5, 16, 252, 159, 0, 7, 4, 167, 0, 4]
abbrev dktX0_spread_5 : List UInt8 := dkwX0_spread_5 ++ dktX0_spread_6
def dkwX0_spread_4 : List UInt8 := [16, 252, 159, 0, 20, 42, 180, 0, 154, 21, 6, 46, 42, 180, 0, 154, 21, 5, 46, 162, 0, 8, 21, 6]
abbrev dktX0_spread_4 : List UInt8 := dkwX0_spread_4 ++ dktX0_spread_5
def dkwX0_spread_3 : List UInt8 := [180, 0, 157, 21, 6, 51, 154, 0, 44, 42, 180, 0, 154, 21, 6, 46, 16, 96, 162, 0, 32, 21, 5]
abbrev dktX0_spread_3 : List UInt8 := dkwX0_spread_3 ++ dktX0_spread_4
def dkwX0_spread_2 : List UInt8 := [21, 4, 153, 0, 219, 16, 252, 54, 5, 3, 54, 6, 21, 6, 42, 180, 0, 5, 162, 0, 64, 42]
abbrev dktX0_spread_2 : List UInt8 := dkwX0_spread_2 ++ dktX0_spread_3
def dkwX0_spread_1 : List UInt8 := [180, 0, 157, 21, 4, 3, 84, 132, 4, 1, 167, 255, 227, 42, 180, 0, 154, 27, 29, 79, 4, 54, 4]
abbrev dktX0_spread_1 : List UInt8 := dkwX0_spread_1 ++ dktX0_spread_2
def dkwX0_spread_0 : List UInt8 := [3, 54, 4, 21, 4, 42, 180, 0, 5, 162, 0, 26, 42, 180, 0, 154, 21, 4, 16, 96, 79, 42]
abbrev dktX0_spread_0 : List UInt8 := dkwX0_spread_0 ++ dktX0_spread_1
theorem dksX0_spread_0 : cX0_spread.data.toList.drop 0 = dktX0_spread_0 := by decide +kernel
theorem dksX0_spread_1 : cX0_spread.data.toList.drop 22 = dktX0_spread_1 := dk_seg dksX0_spread_0 22 rfl rfl
theorem dksX0_spread_2 : cX0_spread.data.toList.drop 45 = dktX0_spread_2 := dk_seg dksX0_spread_1 23 rfl rfl
theorem dksX0_spread_3 : cX0_spread.data.toList.drop 67 = dktX0_spread_3 := dk_seg dksX0_spread_2 22 rfl rfl
theorem dksX0_spread_4 : cX0_spread.data.toList.drop 90 = dktX0_spread_4 := dk_seg dksX0_spread_3 23 rfl rfl
theorem dksX0_spread_5 : cX0_spread.data.toList.drop 114 = dktX0_spread_5 := dk_seg dksX0_spread_4 24 rfl rfl
theorem dksX0_spread_6 : cX0_spread.data.toList.drop 138 = dktX0_spread_6 := dk_seg dksX0_spread_5 24 rfl rfl
theorem dksX0_spread_7 : cX0_spread.data.toList.drop 160 = dktX0_spread_7 := dk_seg dksX0_spread_6 22 rfl rfl
theorem dksX0_spread_8 : cX0_spread.data.toList.drop 183 = dktX0_spread_8 := dk_seg dksX0_spread_7 23 rfl rfl
theorem dksX0_spread_9 : cX0_spread.data.toList.drop 207 = dktX0_spread_9 := dk_seg dksX0_spread_8 24 rfl rfl
theorem dksX0_spread_10 : cX0_spread.data.toList.drop 229 = dktX0_spread_10 := dk_seg dksX0_spread_9 22 rfl rfl
theorem dksX0_spread_11 : cX0_spread.data.toList.drop 253 = dktX0_spread_11 := dk_seg dksX0_spread_10 24 rfl rfl
theorem dX0_spread_0 : decode cX0_spread 0 = .ok (.iconst 0, 1) := dk_3 (dk_at dksX0_spread_0 0 rfl rfl)
theorem dX0_spread_1 : decode cX0_spread 1 = .ok (.istore 4, 2) := dk_54 4 (dk_at dksX0_spread_0 1 rfl rfl)
theorem dX0_spread_3 : decode cX0_spread 3 = .ok (.iload 4, 2) := dk_21 4 (dk_at dksX0_spread_0 3 rfl rfl)
theorem dX0_spread_5 : decode cX0_spread 5 = .ok (.aload_n 0, 1) := dk_42 (dk_at dksX0_spread_0 5 rfl rfl)
theorem dX0_spread_6 : decode cX0_spread 6 = .ok (.getfield 5, 3) := dk_180 0 5 (dk_at dksX0_spread_0 6 rfl rfl)
theorem dX0_spread_9 : decode cX0_spread 9 = .ok (.if_icmp .ge 26, 3) := dk_162 0 26 (dk_at dksX0_spread_0 9 rfl rfl)
theorem dX0_spread_12 : decode cX0_spread 12 = .ok (.aload_n 0, 1) := dk_42 (dk_at dksX0_spread_0 12 rfl rfl)
theorem dX0_spread_13 : decode cX0_spread 13 = .ok (.getfield 154, 3) := dk_180 0 154 (dk_at dksX0_spread_0 13 rfl rfl)
theorem dX0_spread_16 : decode cX0_spread 16 = .ok (.iload 4, 2) := dk_21 4 (dk_at dksX0_spread_0 16 rfl rfl)
theorem dX0_spread_18 : decode cX0_spread 18 = .ok (.bipush 96, 2) := dk_16 96 (dk_at dksX0_spread_0 18 rfl rfl)
theorem dX0_spread_20 : decode cX0_spread 20 = .ok (.iastore, 1) := dk_79 (dk_at dksX0_spread_0 20 rfl rfl)
theorem dX0_spread_21 : decode cX0_spread 21 = .ok (.aload_n 0, 1) := dk_42 (dk_at dksX0_spread_0 21 rfl rfl)
theorem dX0_spread_22 : decode cX0_spread 22 = .ok (.getfield 157, 3) := dk_180 0 157 (dk_at dksX0_spread_1 0 rfl rfl)
theorem dX0_spread_25 : decode cX0_spread 25 = .ok (.iload 4, 2) := dk_21 4 (dk_at dksX0_spread_1 3 rfl rfl)
theorem dX0_spread_27 : decode cX0_spread 27 = .ok (.iconst 0, 1) := dk_3 (dk_at dksX0_spread_1 5 rfl rfl)
theorem dX0_spread_28 : decode cX0_spread 28 = .ok (.bastore, 1) := dk_84 (dk_at dksX0_spread_1 6 rfl rfl)
theorem dX0_spread_29 : decode cX0_spread 29 = .ok (.iinc 4 1, 3) := dk_132 4 1 (dk_at dksX0_spread_1 7 rfl rfl)
theorem dX0_spread_32 : decode cX0_spread 32 = .ok (.goto (-29), 3) := dk_167 255 227 (dk_at dksX0_spread_1 10 rfl rfl)
theorem dX0_spread_35 : decode cX0_spread 35 = .ok (.aload_n 0, 1) := dk_42 (dk_at dksX0_spread_1 13 rfl rfl)
theorem dX0_spread_36 : decode cX0_spread 36 = .ok (.getfield 154, 3) := dk_180 0 154 (dk_at dksX0_spread_1 14 rfl rfl)
theorem dX0_spread_39 : decode cX0_spread 39 = .ok (.iload_n 1, 1) := dk_27 (dk_at dksX0_spread_1 17 rfl rfl)
theorem dX0_spread_40 : decode cX0_spread 40 = .ok (.iload_n 3, 1) := dk_29 (dk_at dksX0_spread_1 18 rfl rfl)
theorem dX0_spread_41 : decode cX0_spread 41 = .ok (.iastore, 1) := dk_79 (dk_at dksX0_spread_1 19 rfl rfl)
theorem dX0_spread_42 : decode cX0_spread 42 = .ok (.iconst 1, 1) := dk_4 (dk_at dksX0_spread_1 20 rfl rfl)
theorem dX0_spread_43 : decode cX0_spread 43 = .ok (.istore 4, 2) := dk_54 4 (dk_at dksX0_spread_1 21 rfl rfl)
theorem dX0_spread_45 : decode cX0_spread 45 = .ok (.iload 4, 2) := dk_21 4 (dk_at dksX0_spread_2 0 rfl rfl)
theorem dX0_spread_47 : decode cX0_spread 47 = .ok (.ifCond .eq 219, 3) := dk_153 0 219 (dk_at dksX0_spread_2 2 rfl rfl)
theorem dX0_spread_50 : decode cX0_spread 50 = .ok (.bipush (-4), 2) := dk_16 252 (dk_at dksX0_spread_2 5 rfl rfl)
theorem dX0_spread_52 : decode cX0_spread 52 = .ok (.istore 5, 2) := dk_54 5 (dk_at dksX0_spread_2 7 rfl rfl)
theorem dX0_spread_54 : decode cX0_spread 54 = .ok (.iconst 0, 1) := dk_3 (dk_at dksX0_spread_2 9 rfl rfl)
theorem dX0_spread_55 : decode cX0_spread 55 = .ok (.istore 6, 2) := dk_54 6 (dk_at dksX0_spread_2 10 rfl rfl)
theorem dX0_spread_57 : decode cX0_spread 57 = .ok (.iload 6, 2) := dk_21 6 (dk_at dksX0_spread_2 12 rfl rfl)
theorem dX0_spread_59 : decode cX0_spread 59 = .ok (.aload_n 0, 1) := dk_42 (dk_at dksX0_spread_2 14 rfl rfl)
theorem dX0_spread_60 : decode cX0_spread 60 = .ok (.getfield 5, 3) := dk_180 0 5 (dk_at dksX0_spread_2 15 rfl rfl)
theorem dX0_spread_63 : decode cX0_spread 63 = .ok (.if_icmp .ge 64, 3) := dk_162 0 64 (dk_at dksX0_spread_2 18 rfl rfl)
theorem dX0_spread_66 : decode cX0_spread 66 = .ok (.aload_n 0, 1) := dk_42 (dk_at dksX0_spread_2 21 rfl rfl)
theorem dX0_spread_67 : decode cX0_spread 67 = .ok (.getfield 157, 3) := dk_180 0 157 (dk_at dksX0_spread_3 0 rfl rfl)
theorem dX0_spread_70 : decode cX0_spread 70 = .ok (.iload 6, 2) := dk_21 6 (dk_at dksX0_spread_3 3 rfl rfl)
theorem dX0_spread_72 : decode cX0_spread 72 = .ok (.baload, 1) := dk_51 (dk_at dksX0_spread_3 5 rfl rfl)
theorem dX0_spread_73 : decode cX0_spread 73 = .ok (.ifCond .ne 44, 3) := dk_154 0 44 (dk_at dksX0_spread_3 6 rfl rfl)
theorem dX0_spread_76 : decode cX0_spread 76 = .ok (.aload_n 0, 1) := dk_42 (dk_at dksX0_spread_3 9 rfl rfl)
theorem dX0_spread_77 : decode cX0_spread 77 = .ok (.getfield 154, 3) := dk_180 0 154 (dk_at dksX0_spread_3 10 rfl rfl)
theorem dX0_spread_80 : decode cX0_spread 80 = .ok (.iload 6, 2) := dk_21 6 (dk_at dksX0_spread_3 13 rfl rfl)
theorem dX0_spread_82 : decode cX0_spread 82 = .ok (.iaload, 1) := dk_46 (dk_at dksX0_spread_3 15 rfl rfl)
theorem dX0_spread_83 : decode cX0_spread 83 = .ok (.bipush 96, 2) := dk_16 96 (dk_at dksX0_spread_3 16 rfl rfl)
theorem dX0_spread_85 : decode cX0_spread 85 = .ok (.if_icmp .ge 32, 3) := dk_162 0 32 (dk_at dksX0_spread_3 18 rfl rfl)
theorem dX0_spread_88 : decode cX0_spread 88 = .ok (.iload 5, 2) := dk_21 5 (dk_at dksX0_spread_3 21 rfl rfl)
theorem dX0_spread_90 : decode cX0_spread 90 = .ok (.bipush (-4), 2) := dk_16 252 (dk_at dksX0_spread_4 0 rfl rfl)
theorem dX0_spread_92 : decode cX0_spread 92 = .ok (.if_icmp .eq 20, 3) := dk_159 0 20 (dk_at dksX0_spread_4 2 rfl rfl)
theorem dX0_spread_95 : decode cX0_spread 95 = .ok (.aload_n 0, 1) := dk_42 (dk_at dksX0_spread_4 5 rfl rfl)
theorem dX0_spread_96 : decode cX0_spread 96 = .ok (.getfield 154, 3) := dk_180 0 154 (dk_at dksX0_spread_4 6 rfl rfl)
theorem dX0_spread_99 : decode cX0_spread 99 = .ok (.iload 6, 2) := dk_21 6 (dk_at dksX0_spread_4 9 rfl rfl)
theorem dX0_spread_101 : decode cX0_spread 101 = .ok (.iaload, 1) := dk_46 (dk_at dksX0_spread_4 11 rfl rfl)
theorem dX0_spread_102 : decode cX0_spread 102 = .ok (.aload_n 0, 1) := dk_42 (dk_at dksX0_spread_4 12 rfl rfl)
theorem dX0_spread_103 : decode cX0_spread 103 = .ok (.getfield 154, 3) := dk_180 0 154 (dk_at dksX0_spread_4 13 rfl rfl)
theorem dX0_spread_106 : decode cX0_spread 106 = .ok (.iload 5, 2) := dk_21 5 (dk_at dksX0_spread_4 16 rfl rfl)
theorem dX0_spread_108 : decode cX0_spread 108 = .ok (.iaload, 1) := dk_46 (dk_at dksX0_spread_4 18 rfl rfl)
theorem dX0_spread_109 : decode cX0_spread 109 = .ok (.if_icmp .ge 8, 3) := dk_162 0 8 (dk_at dksX0_spread_4 19 rfl rfl)
theorem dX0_spread_112 : decode cX0_spread 112 = .ok (.iload 6, 2) := dk_21 6 (dk_at dksX0_spread_4 22 rfl rfl)
theorem dX0_spread_114 : decode cX0_spread 114 = .ok (.goto 5, 3) := dk_167 0 5 (dk_at dksX0_spread_5 0 rfl rfl)
theorem dX0_spread_117 : decode cX0_spread 117 = .ok (.iload 5, 2) := dk_21 5 (dk_at dksX0_spread_5 3 rfl rfl)
theorem dX0_spread_119 : decode cX0_spread 119 = .ok (.istore 5, 2) := dk_54 5 (dk_at dksX0_spread_5 5 rfl rfl)
theorem dX0_spread_121 : decode cX0_spread 121 = .ok (.iinc 6 1, 3) := dk_132 6 1 (dk_at dksX0_spread_5 7 rfl rfl)
theorem dX0_spread_124 : decode cX0_spread 124 = .ok (.goto (-67), 3) := dk_167 255 189 (dk_at dksX0_spread_5 10 rfl rfl)
theorem dX0_spread_127 : decode cX0_spread 127 = .ok (.iload 5, 2) := dk_21 5 (dk_at dksX0_spread_5 13 rfl rfl)
theorem dX0_spread_129 : decode cX0_spread 129 = .ok (.bipush (-4), 2) := dk_16 252 (dk_at dksX0_spread_5 15 rfl rfl)
theorem dX0_spread_131 : decode cX0_spread 131 = .ok (.if_icmp .eq 7, 3) := dk_159 0 7 (dk_at dksX0_spread_5 17 rfl rfl)
theorem dX0_spread_134 : decode cX0_spread 134 = .ok (.iconst 1, 1) := dk_4 (dk_at dksX0_spread_5 20 rfl rfl)
theorem dX0_spread_135 : decode cX0_spread 135 = .ok (.goto 4, 3) := dk_167 0 4 (dk_at dksX0_spread_5 21 rfl rfl)
theorem dX0_spread_138 : decode cX0_spread 138 = .ok (.iconst 0, 1) := dk_3 (dk_at dksX0_spread_6 0 rfl rfl)
theorem dX0_spread_139 : decode cX0_spread 139 = .ok (.istore 4, 2) := dk_54 4 (dk_at dksX0_spread_6 1 rfl rfl)
theorem dX0_spread_141 : decode cX0_spread 141 = .ok (.iload 4, 2) := dk_21 4 (dk_at dksX0_spread_6 3 rfl rfl)
theorem dX0_spread_143 : decode cX0_spread 143 = .ok (.ifCond .eq 120, 3) := dk_153 0 120 (dk_at dksX0_spread_6 5 rfl rfl)
theorem dX0_spread_146 : decode cX0_spread 146 = .ok (.aload_n 0, 1) := dk_42 (dk_at dksX0_spread_6 8 rfl rfl)
theorem dX0_spread_147 : decode cX0_spread 147 = .ok (.getfield 157, 3) := dk_180 0 157 (dk_at dksX0_spread_6 9 rfl rfl)
theorem dX0_spread_150 : decode cX0_spread 150 = .ok (.iload 5, 2) := dk_21 5 (dk_at dksX0_spread_6 12 rfl rfl)
theorem dX0_spread_152 : decode cX0_spread 152 = .ok (.iconst 1, 1) := dk_4 (dk_at dksX0_spread_6 14 rfl rfl)
theorem dX0_spread_153 : decode cX0_spread 153 = .ok (.bastore, 1) := dk_84 (dk_at dksX0_spread_6 15 rfl rfl)
theorem dX0_spread_154 : decode cX0_spread 154 = .ok (.iconst 0, 1) := dk_3 (dk_at dksX0_spread_6 16 rfl rfl)
theorem dX0_spread_155 : decode cX0_spread 155 = .ok (.istore 6, 2) := dk_54 6 (dk_at dksX0_spread_6 17 rfl rfl)
theorem dX0_spread_157 : decode cX0_spread 157 = .ok (.iload 6, 2) := dk_21 6 (dk_at dksX0_spread_6 19 rfl rfl)
theorem dX0_spread_159 : decode cX0_spread 159 = .ok (.aload_n 0, 1) := dk_42 (dk_at dksX0_spread_6 21 rfl rfl)
theorem dX0_spread_160 : decode cX0_spread 160 = .ok (.getfield 13, 3) := dk_180 0 13 (dk_at dksX0_spread_7 0 rfl rfl)
theorem dX0_spread_163 : decode cX0_spread 163 = .ok (.if_icmp .ge 100, 3) := dk_162 0 100 (dk_at dksX0_spread_7 3 rfl rfl)
theorem dX0_spread_166 : decode cX0_spread 166 = .ok (.aload_n 0, 1) := dk_42 (dk_at dksX0_spread_7 6 rfl rfl)
theorem dX0_spread_167 : decode cX0_spread 167 = .ok (.getfield 53, 3) := dk_180 0 53 (dk_at dksX0_spread_7 7 rfl rfl)
theorem dX0_spread_170 : decode cX0_spread 170 = .ok (.iload 6, 2) := dk_21 6 (dk_at dksX0_spread_7 10 rfl rfl)
theorem dX0_spread_172 : decode cX0_spread 172 = .ok (.aaload, 1) := dk_50 (dk_at dksX0_spread_7 12 rfl rfl)
theorem dX0_spread_173 : decode cX0_spread 173 = .ok (.getfield 64, 3) := dk_180 0 64 (dk_at dksX0_spread_7 13 rfl rfl)
theorem dX0_spread_176 : decode cX0_spread 176 = .ok (.iload 5, 2) := dk_21 5 (dk_at dksX0_spread_7 16 rfl rfl)
theorem dX0_spread_178 : decode cX0_spread 178 = .ok (.if_icmp .ne 25, 3) := dk_160 0 25 (dk_at dksX0_spread_7 18 rfl rfl)
theorem dX0_spread_181 : decode cX0_spread 181 = .ok (.aload_n 0, 1) := dk_42 (dk_at dksX0_spread_7 21 rfl rfl)
theorem dX0_spread_182 : decode cX0_spread 182 = .ok (.aload_n 0, 1) := dk_42 (dk_at dksX0_spread_7 22 rfl rfl)
theorem dX0_spread_183 : decode cX0_spread 183 = .ok (.getfield 53, 3) := dk_180 0 53 (dk_at dksX0_spread_8 0 rfl rfl)
theorem dX0_spread_186 : decode cX0_spread 186 = .ok (.iload 6, 2) := dk_21 6 (dk_at dksX0_spread_8 3 rfl rfl)
theorem dX0_spread_188 : decode cX0_spread 188 = .ok (.aaload, 1) := dk_50 (dk_at dksX0_spread_8 5 rfl rfl)
theorem dX0_spread_189 : decode cX0_spread 189 = .ok (.iload_n 2, 1) := dk_28 (dk_at dksX0_spread_8 6 rfl rfl)
theorem dX0_spread_190 : decode cX0_spread 190 = .ok (.aload_n 0, 1) := dk_42 (dk_at dksX0_spread_8 7 rfl rfl)
theorem dX0_spread_191 : decode cX0_spread 191 = .ok (.getfield 154, 3) := dk_180 0 154 (dk_at dksX0_spread_8 8 rfl rfl)
theorem dX0_spread_194 : decode cX0_spread 194 = .ok (.iload 5, 2) := dk_21 5 (dk_at dksX0_spread_8 11 rfl rfl)
theorem dX0_spread_196 : decode cX0_spread 196 = .ok (.iaload, 1) := dk_46 (dk_at dksX0_spread_8 13 rfl rfl)
theorem dX0_spread_197 : decode cX0_spread 197 = .ok (.invokevirtual 317, 3) := dk_182 1 61 (dk_at dksX0_spread_8 14 rfl rfl)
theorem dX0_spread_200 : decode cX0_spread 200 = .ok (.goto 5, 3) := dk_167 0 5 (dk_at dksX0_spread_8 17 rfl rfl)
theorem dX0_spread_203 : decode cX0_spread 203 = .ok (.bipush (-5), 2) := dk_16 251 (dk_at dksX0_spread_8 20 rfl rfl)
theorem dX0_spread_205 : decode cX0_spread 205 = .ok (.istore 7, 2) := dk_54 7 (dk_at dksX0_spread_8 22 rfl rfl)
theorem dX0_spread_207 : decode cX0_spread 207 = .ok (.iload 7, 2) := dk_21 7 (dk_at dksX0_spread_9 0 rfl rfl)
theorem dX0_spread_209 : decode cX0_spread 209 = .ok (.bipush (-5), 2) := dk_16 251 (dk_at dksX0_spread_9 2 rfl rfl)
theorem dX0_spread_211 : decode cX0_spread 211 = .ok (.if_icmp .eq 46, 3) := dk_159 0 46 (dk_at dksX0_spread_9 4 rfl rfl)
theorem dX0_spread_214 : decode cX0_spread 214 = .ok (.aload_n 0, 1) := dk_42 (dk_at dksX0_spread_9 7 rfl rfl)
theorem dX0_spread_215 : decode cX0_spread 215 = .ok (.getfield 154, 3) := dk_180 0 154 (dk_at dksX0_spread_9 8 rfl rfl)
theorem dX0_spread_218 : decode cX0_spread 218 = .ok (.aload_n 0, 1) := dk_42 (dk_at dksX0_spread_9 11 rfl rfl)
theorem dX0_spread_219 : decode cX0_spread 219 = .ok (.getfield 53, 3) := dk_180 0 53 (dk_at dksX0_spread_9 12 rfl rfl)
theorem dX0_spread_222 : decode cX0_spread 222 = .ok (.iload 6, 2) := dk_21 6 (dk_at dksX0_spread_9 15 rfl rfl)
theorem dX0_spread_224 : decode cX0_spread 224 = .ok (.aaload, 1) := dk_50 (dk_at dksX0_spread_9 17 rfl rfl)
theorem dX0_spread_225 : decode cX0_spread 225 = .ok (.getfield 69, 3) := dk_180 0 69 (dk_at dksX0_spread_9 18 rfl rfl)
theorem dX0_spread_228 : decode cX0_spread 228 = .ok (.aload_n 0, 1) := dk_42 (dk_at dksX0_spread_9 21 rfl rfl)
theorem dX0_spread_229 : decode cX0_spread 229 = .ok (.getfield 154, 3) := dk_180 0 154 (dk_at dksX0_spread_10 0 rfl rfl)
theorem dX0_spread_232 : decode cX0_spread 232 = .ok (.aload_n 0, 1) := dk_42 (dk_at dksX0_spread_10 3 rfl rfl)
theorem dX0_spread_233 : decode cX0_spread 233 = .ok (.getfield 53, 3) := dk_180 0 53 (dk_at dksX0_spread_10 4 rfl rfl)
theorem dX0_spread_236 : decode cX0_spread 236 = .ok (.iload 6, 2) := dk_21 6 (dk_at dksX0_spread_10 7 rfl rfl)
theorem dX0_spread_238 : decode cX0_spread 238 = .ok (.aaload, 1) := dk_50 (dk_at dksX0_spread_10 9 rfl rfl)
theorem dX0_spread_239 : decode cX0_spread 239 = .ok (.getfield 69, 3) := dk_180 0 69 (dk_at dksX0_spread_10 10 rfl rfl)
theorem dX0_spread_242 : decode cX0_spread 242 = .ok (.iaload, 1) := dk_46 (dk_at dksX0_spread_10 13 rfl rfl)
theorem dX0_spread_243 : decode cX0_spread 243 = .ok (.aload_n 0, 1) := dk_42 (dk_at dksX0_spread_10 14 rfl rfl)
theorem dX0_spread_244 : decode cX0_spread 244 = .ok (.getfield 154, 3) := dk_180 0 154 (dk_at dksX0_spread_10 15 rfl rfl)
theorem dX0_spread_247 : decode cX0_spread 247 = .ok (.iload 5, 2) := dk_21 5 (dk_at dksX0_spread_10 18 rfl rfl)
theorem dX0_spread_249 : decode cX0_spread 249 = .ok (.iaload, 1) := dk_46 (dk_at dksX0_spread_10 20 rfl rfl)
theorem dX0_spread_250 : decode cX0_spread 250 = .ok (.iload 7, 2) := dk_21 7 (dk_at dksX0_spread_10 21 rfl rfl)
theorem dX0_spread_252 : decode cX0_spread 252 = .ok (.iadd, 1) := dk_96 (dk_at dksX0_spread_10 23 rfl rfl)
theorem dX0_spread_253 : decode cX0_spread 253 = .ok (.invokestatic 280, 3) := dk_184 1 24 (dk_at dksX0_spread_11 0 rfl rfl)
theorem dX0_spread_256 : decode cX0_spread 256 = .ok (.iastore, 1) := dk_79 (dk_at dksX0_spread_11 3 rfl rfl)
theorem dX0_spread_257 : decode cX0_spread 257 = .ok (.iinc 6 1, 3) := dk_132 6 1 (dk_at dksX0_spread_11 4 rfl rfl)
theorem dX0_spread_260 : decode cX0_spread 260 = .ok (.goto (-103), 3) := dk_167 255 153 (dk_at dksX0_spread_11 7 rfl rfl)
theorem dX0_spread_263 : decode cX0_spread 263 = .ok (.goto (-218), 3) := dk_167 255 38 (dk_at dksX0_spread_11 10 rfl rfl)
theorem dX0_spread_266 : decode cX0_spread 266 = .ok (.return_, 1) := dk_177 (dk_at dksX0_spread_11 13 rfl rfl)
abbrev cX0_feed : ByteArray := prog_1_method_35_code
def yX0_feed : MethodName := ⟨RX0, "feed", "(J)I"⟩
def dkwX0_feed_2 : List UInt8 := [132, 3, 248, 167, 255, 225, 42, 180, 1, 82, 172]
abbrev dktX0_feed_2 : List UInt8 := dkwX0_feed_2 ++ []
def dkwX0_feed_1 : List UInt8 := [180, 0, 161, 42, 180, 1, 82, 31, 29, 123, 136, 145, 84, 42, 89, 180, 1, 82, 4, 96, 181, 1, 82]
abbrev dktX0_feed_1 : List UInt8 := dkwX0_feed_1 ++ dktX0_feed_2
def dkwX0_feed_0 : List UInt8 := [42, 180, 1, 82, 16, 8, 96, 17, 0, 240, 164, 0, 6, 16, 253, 172, 16, 56, 62, 29, 155, 0, 33, 42]
abbrev dktX0_feed_0 : List UInt8 := dkwX0_feed_0 ++ dktX0_feed_1
theorem dksX0_feed_0 : cX0_feed.data.toList.drop 0 = dktX0_feed_0 := by decide +kernel
theorem dksX0_feed_1 : cX0_feed.data.toList.drop 24 = dktX0_feed_1 := dk_seg dksX0_feed_0 24 rfl rfl
theorem dksX0_feed_2 : cX0_feed.data.toList.drop 47 = dktX0_feed_2 := dk_seg dksX0_feed_1 23 rfl rfl
theorem dX0_feed_0 : decode cX0_feed 0 = .ok (.aload_n 0, 1) := dk_42 (dk_at dksX0_feed_0 0 rfl rfl)
theorem dX0_feed_1 : decode cX0_feed 1 = .ok (.getfield 338, 3) := dk_180 1 82 (dk_at dksX0_feed_0 1 rfl rfl)
theorem dX0_feed_4 : decode cX0_feed 4 = .ok (.bipush 8, 2) := dk_16 8 (dk_at dksX0_feed_0 4 rfl rfl)
theorem dX0_feed_6 : decode cX0_feed 6 = .ok (.iadd, 1) := dk_96 (dk_at dksX0_feed_0 6 rfl rfl)
theorem dX0_feed_7 : decode cX0_feed 7 = .ok (.sipush 240, 3) := dk_17 0 240 (dk_at dksX0_feed_0 7 rfl rfl)
theorem dX0_feed_10 : decode cX0_feed 10 = .ok (.if_icmp .le 6, 3) := dk_164 0 6 (dk_at dksX0_feed_0 10 rfl rfl)
theorem dX0_feed_13 : decode cX0_feed 13 = .ok (.bipush (-3), 2) := dk_16 253 (dk_at dksX0_feed_0 13 rfl rfl)
theorem dX0_feed_15 : decode cX0_feed 15 = .ok (.ireturn, 1) := dk_172 (dk_at dksX0_feed_0 15 rfl rfl)
theorem dX0_feed_16 : decode cX0_feed 16 = .ok (.bipush 56, 2) := dk_16 56 (dk_at dksX0_feed_0 16 rfl rfl)
theorem dX0_feed_18 : decode cX0_feed 18 = .ok (.istore_n 3, 1) := dk_62 (dk_at dksX0_feed_0 18 rfl rfl)
theorem dX0_feed_19 : decode cX0_feed 19 = .ok (.iload_n 3, 1) := dk_29 (dk_at dksX0_feed_0 19 rfl rfl)
theorem dX0_feed_20 : decode cX0_feed 20 = .ok (.ifCond .lt 33, 3) := dk_155 0 33 (dk_at dksX0_feed_0 20 rfl rfl)
theorem dX0_feed_23 : decode cX0_feed 23 = .ok (.aload_n 0, 1) := dk_42 (dk_at dksX0_feed_0 23 rfl rfl)
theorem dX0_feed_24 : decode cX0_feed 24 = .ok (.getfield 161, 3) := dk_180 0 161 (dk_at dksX0_feed_1 0 rfl rfl)
theorem dX0_feed_27 : decode cX0_feed 27 = .ok (.aload_n 0, 1) := dk_42 (dk_at dksX0_feed_1 3 rfl rfl)
theorem dX0_feed_28 : decode cX0_feed 28 = .ok (.getfield 338, 3) := dk_180 1 82 (dk_at dksX0_feed_1 4 rfl rfl)
theorem dX0_feed_31 : decode cX0_feed 31 = .ok (.lload_n 1, 1) := dk_31 (dk_at dksX0_feed_1 7 rfl rfl)
theorem dX0_feed_32 : decode cX0_feed 32 = .ok (.iload_n 3, 1) := dk_29 (dk_at dksX0_feed_1 8 rfl rfl)
theorem dX0_feed_33 : decode cX0_feed 33 = .ok (.lshr, 1) := dk_123 (dk_at dksX0_feed_1 9 rfl rfl)
theorem dX0_feed_34 : decode cX0_feed 34 = .ok (.l2i, 1) := dk_136 (dk_at dksX0_feed_1 10 rfl rfl)
theorem dX0_feed_35 : decode cX0_feed 35 = .ok (.i2b, 1) := dk_145 (dk_at dksX0_feed_1 11 rfl rfl)
theorem dX0_feed_36 : decode cX0_feed 36 = .ok (.bastore, 1) := dk_84 (dk_at dksX0_feed_1 12 rfl rfl)
theorem dX0_feed_37 : decode cX0_feed 37 = .ok (.aload_n 0, 1) := dk_42 (dk_at dksX0_feed_1 13 rfl rfl)
theorem dX0_feed_38 : decode cX0_feed 38 = .ok (.dup, 1) := dk_89 (dk_at dksX0_feed_1 14 rfl rfl)
theorem dX0_feed_39 : decode cX0_feed 39 = .ok (.getfield 338, 3) := dk_180 1 82 (dk_at dksX0_feed_1 15 rfl rfl)
theorem dX0_feed_42 : decode cX0_feed 42 = .ok (.iconst 1, 1) := dk_4 (dk_at dksX0_feed_1 18 rfl rfl)
theorem dX0_feed_43 : decode cX0_feed 43 = .ok (.iadd, 1) := dk_96 (dk_at dksX0_feed_1 19 rfl rfl)
theorem dX0_feed_44 : decode cX0_feed 44 = .ok (.putfield 338, 3) := dk_181 1 82 (dk_at dksX0_feed_1 20 rfl rfl)
theorem dX0_feed_47 : decode cX0_feed 47 = .ok (.iinc 3 (-8), 3) := dk_132 3 248 (dk_at dksX0_feed_2 0 rfl rfl)
theorem dX0_feed_50 : decode cX0_feed 50 = .ok (.goto (-31), 3) := dk_167 255 225 (dk_at dksX0_feed_2 3 rfl rfl)
theorem dX0_feed_53 : decode cX0_feed 53 = .ok (.aload_n 0, 1) := dk_42 (dk_at dksX0_feed_2 6 rfl rfl)
theorem dX0_feed_54 : decode cX0_feed 54 = .ok (.getfield 338, 3) := dk_180 1 82 (dk_at dksX0_feed_2 7 rfl rfl)
theorem dX0_feed_57 : decode cX0_feed 57 = .ok (.ireturn, 1) := dk_172 (dk_at dksX0_feed_2 10 rfl rfl)
abbrev cX0_end : ByteArray := prog_1_method_36_code
def yX0_end : MethodName := ⟨RX0, "end", "(I)I"⟩
def dkwX0_end_1 : List UInt8 := [181, 1, 82, 28, 172]
abbrev dktX0_end_1 : List UInt8 := dkwX0_end_1 ++ []
def dkwX0_end_0 : List UInt8 := [27, 133, 9, 42, 180, 1, 82, 133, 184, 0, 9, 154, 0, 5, 2, 172, 42, 180, 1, 82, 61, 42, 27]
abbrev dktX0_end_0 : List UInt8 := dkwX0_end_0 ++ dktX0_end_1
theorem dksX0_end_0 : cX0_end.data.toList.drop 0 = dktX0_end_0 := by decide +kernel
theorem dksX0_end_1 : cX0_end.data.toList.drop 23 = dktX0_end_1 := dk_seg dksX0_end_0 23 rfl rfl
theorem dX0_end_0 : decode cX0_end 0 = .ok (.iload_n 1, 1) := dk_27 (dk_at dksX0_end_0 0 rfl rfl)
theorem dX0_end_1 : decode cX0_end 1 = .ok (.i2l, 1) := dk_133 (dk_at dksX0_end_0 1 rfl rfl)
theorem dX0_end_2 : decode cX0_end 2 = .ok (.lconst 0, 1) := dk_9 (dk_at dksX0_end_0 2 rfl rfl)
theorem dX0_end_3 : decode cX0_end 3 = .ok (.aload_n 0, 1) := dk_42 (dk_at dksX0_end_0 3 rfl rfl)
theorem dX0_end_4 : decode cX0_end 4 = .ok (.getfield 338, 3) := dk_180 1 82 (dk_at dksX0_end_0 4 rfl rfl)
theorem dX0_end_7 : decode cX0_end 7 = .ok (.i2l, 1) := dk_133 (dk_at dksX0_end_0 7 rfl rfl)
theorem dX0_end_8 : decode cX0_end 8 = .ok (.invokestatic 9, 3) := dk_184 0 9 (dk_at dksX0_end_0 8 rfl rfl)
theorem dX0_end_11 : decode cX0_end 11 = .ok (.ifCond .ne 5, 3) := dk_154 0 5 (dk_at dksX0_end_0 11 rfl rfl)
theorem dX0_end_14 : decode cX0_end 14 = .ok (.iconst (-1), 1) := dk_2 (dk_at dksX0_end_0 14 rfl rfl)
theorem dX0_end_15 : decode cX0_end 15 = .ok (.ireturn, 1) := dk_172 (dk_at dksX0_end_0 15 rfl rfl)
theorem dX0_end_16 : decode cX0_end 16 = .ok (.aload_n 0, 1) := dk_42 (dk_at dksX0_end_0 16 rfl rfl)
theorem dX0_end_17 : decode cX0_end 17 = .ok (.getfield 338, 3) := dk_180 1 82 (dk_at dksX0_end_0 17 rfl rfl)
theorem dX0_end_20 : decode cX0_end 20 = .ok (.istore_n 2, 1) := dk_61 (dk_at dksX0_end_0 20 rfl rfl)
theorem dX0_end_21 : decode cX0_end 21 = .ok (.aload_n 0, 1) := dk_42 (dk_at dksX0_end_0 21 rfl rfl)
theorem dX0_end_22 : decode cX0_end 22 = .ok (.iload_n 1, 1) := dk_27 (dk_at dksX0_end_0 22 rfl rfl)
theorem dX0_end_23 : decode cX0_end 23 = .ok (.putfield 338, 3) := dk_181 1 82 (dk_at dksX0_end_1 0 rfl rfl)
theorem dX0_end_26 : decode cX0_end 26 = .ok (.iload_n 2, 1) := dk_28 (dk_at dksX0_end_1 3 rfl rfl)
theorem dX0_end_27 : decode cX0_end 27 = .ok (.ireturn, 1) := dk_172 (dk_at dksX0_end_1 4 rfl rfl)
abbrev cX0_text : ByteArray := prog_1_method_37_code
def yX0_text : MethodName := ⟨RX0, "text", "()I"⟩
def dkwX0_text_3 : List UInt8 := [100, 172]
abbrev dktX0_text_3 : List UInt8 := dkwX0_text_3 ++ []
def dkwX0_text_2 : List UInt8 := [180, 0, 168, 185, 0, 110, 1, 0, 172, 77, 42, 44, 180, 1, 105, 181, 1, 100, 16, 246, 44, 180, 1, 108]
abbrev dktX0_text_2 : List UInt8 := dkwX0_text_2 ++ dktX0_text_3
def dkwX0_text_1 : List UInt8 := [181, 1, 82, 42, 187, 1, 91, 89, 43, 183, 1, 93, 182, 1, 96, 181, 0, 168, 42, 3, 181, 1, 100, 42]
abbrev dktX0_text_1 : List UInt8 := dkwX0_text_1 ++ dktX0_text_2
def dkwX0_text_0 : List UInt8 := [42, 180, 1, 82, 188, 8, 76, 42, 180, 0, 161, 3, 43, 3, 42, 180, 1, 82, 184, 1, 85, 42, 3]
abbrev dktX0_text_0 : List UInt8 := dkwX0_text_0 ++ dktX0_text_1
theorem dksX0_text_0 : cX0_text.data.toList.drop 0 = dktX0_text_0 := by decide +kernel
theorem dksX0_text_1 : cX0_text.data.toList.drop 23 = dktX0_text_1 := dk_seg dksX0_text_0 23 rfl rfl
theorem dksX0_text_2 : cX0_text.data.toList.drop 47 = dktX0_text_2 := dk_seg dksX0_text_1 24 rfl rfl
theorem dksX0_text_3 : cX0_text.data.toList.drop 71 = dktX0_text_3 := dk_seg dksX0_text_2 24 rfl rfl
theorem dX0_text_0 : decode cX0_text 0 = .ok (.aload_n 0, 1) := dk_42 (dk_at dksX0_text_0 0 rfl rfl)
theorem dX0_text_1 : decode cX0_text 1 = .ok (.getfield 338, 3) := dk_180 1 82 (dk_at dksX0_text_0 1 rfl rfl)
theorem dX0_text_4 : decode cX0_text 4 = .ok (.newarray .byte, 2) := dk_188_8 (dk_at dksX0_text_0 4 rfl rfl)
theorem dX0_text_6 : decode cX0_text 6 = .ok (.astore_n 1, 1) := dk_76 (dk_at dksX0_text_0 6 rfl rfl)
theorem dX0_text_7 : decode cX0_text 7 = .ok (.aload_n 0, 1) := dk_42 (dk_at dksX0_text_0 7 rfl rfl)
theorem dX0_text_8 : decode cX0_text 8 = .ok (.getfield 161, 3) := dk_180 0 161 (dk_at dksX0_text_0 8 rfl rfl)
theorem dX0_text_11 : decode cX0_text 11 = .ok (.iconst 0, 1) := dk_3 (dk_at dksX0_text_0 11 rfl rfl)
theorem dX0_text_12 : decode cX0_text 12 = .ok (.aload_n 1, 1) := dk_43 (dk_at dksX0_text_0 12 rfl rfl)
theorem dX0_text_13 : decode cX0_text 13 = .ok (.iconst 0, 1) := dk_3 (dk_at dksX0_text_0 13 rfl rfl)
theorem dX0_text_14 : decode cX0_text 14 = .ok (.aload_n 0, 1) := dk_42 (dk_at dksX0_text_0 14 rfl rfl)
theorem dX0_text_15 : decode cX0_text 15 = .ok (.getfield 338, 3) := dk_180 1 82 (dk_at dksX0_text_0 15 rfl rfl)
theorem dX0_text_18 : decode cX0_text 18 = .ok (.invokestatic 341, 3) := dk_184 1 85 (dk_at dksX0_text_0 18 rfl rfl)
theorem dX0_text_21 : decode cX0_text 21 = .ok (.aload_n 0, 1) := dk_42 (dk_at dksX0_text_0 21 rfl rfl)
theorem dX0_text_22 : decode cX0_text 22 = .ok (.iconst 0, 1) := dk_3 (dk_at dksX0_text_0 22 rfl rfl)
theorem dX0_text_23 : decode cX0_text 23 = .ok (.putfield 338, 3) := dk_181 1 82 (dk_at dksX0_text_1 0 rfl rfl)
theorem dX0_text_26 : decode cX0_text 26 = .ok (.aload_n 0, 1) := dk_42 (dk_at dksX0_text_1 3 rfl rfl)
theorem dX0_text_27 : decode cX0_text 27 = .ok (.new 347, 3) := dk_187 1 91 (dk_at dksX0_text_1 4 rfl rfl)
theorem dX0_text_30 : decode cX0_text 30 = .ok (.dup, 1) := dk_89 (dk_at dksX0_text_1 7 rfl rfl)
theorem dX0_text_31 : decode cX0_text 31 = .ok (.aload_n 1, 1) := dk_43 (dk_at dksX0_text_1 8 rfl rfl)
theorem dX0_text_32 : decode cX0_text 32 = .ok (.invokespecial 349, 3) := dk_183 1 93 (dk_at dksX0_text_1 9 rfl rfl)
theorem dX0_text_35 : decode cX0_text 35 = .ok (.invokevirtual 352, 3) := dk_182 1 96 (dk_at dksX0_text_1 12 rfl rfl)
theorem dX0_text_38 : decode cX0_text 38 = .ok (.putfield 168, 3) := dk_181 0 168 (dk_at dksX0_text_1 15 rfl rfl)
theorem dX0_text_41 : decode cX0_text 41 = .ok (.aload_n 0, 1) := dk_42 (dk_at dksX0_text_1 18 rfl rfl)
theorem dX0_text_42 : decode cX0_text 42 = .ok (.iconst 0, 1) := dk_3 (dk_at dksX0_text_1 19 rfl rfl)
theorem dX0_text_43 : decode cX0_text 43 = .ok (.putfield 356, 3) := dk_181 1 100 (dk_at dksX0_text_1 20 rfl rfl)
theorem dX0_text_46 : decode cX0_text 46 = .ok (.aload_n 0, 1) := dk_42 (dk_at dksX0_text_1 23 rfl rfl)
theorem dX0_text_47 : decode cX0_text 47 = .ok (.getfield 168, 3) := dk_180 0 168 (dk_at dksX0_text_2 0 rfl rfl)
theorem dX0_text_50 : decode cX0_text 50 = .ok (.invokeinterface 110 1, 5) := by decide +kernel
theorem dX0_text_55 : decode cX0_text 55 = .ok (.ireturn, 1) := dk_172 (dk_at dksX0_text_2 8 rfl rfl)
theorem dX0_text_56 : decode cX0_text 56 = .ok (.astore_n 2, 1) := dk_77 (dk_at dksX0_text_2 9 rfl rfl)
theorem dX0_text_57 : decode cX0_text 57 = .ok (.aload_n 0, 1) := dk_42 (dk_at dksX0_text_2 10 rfl rfl)
theorem dX0_text_58 : decode cX0_text 58 = .ok (.aload_n 2, 1) := dk_44 (dk_at dksX0_text_2 11 rfl rfl)
theorem dX0_text_59 : decode cX0_text 59 = .ok (.getfield 361, 3) := dk_180 1 105 (dk_at dksX0_text_2 12 rfl rfl)
theorem dX0_text_62 : decode cX0_text 62 = .ok (.putfield 356, 3) := dk_181 1 100 (dk_at dksX0_text_2 15 rfl rfl)
theorem dX0_text_65 : decode cX0_text 65 = .ok (.bipush (-10), 2) := dk_16 246 (dk_at dksX0_text_2 18 rfl rfl)
theorem dX0_text_67 : decode cX0_text 67 = .ok (.aload_n 2, 1) := dk_44 (dk_at dksX0_text_2 20 rfl rfl)
theorem dX0_text_68 : decode cX0_text 68 = .ok (.getfield 364, 3) := dk_180 1 108 (dk_at dksX0_text_2 21 rfl rfl)
theorem dX0_text_71 : decode cX0_text 71 = .ok (.isub, 1) := dk_100 (dk_at dksX0_text_3 0 rfl rfl)
theorem dX0_text_72 : decode cX0_text 72 = .ok (.ireturn, 1) := dk_172 (dk_at dksX0_text_3 1 rfl rfl)
abbrev cX0_fault : ByteArray := prog_1_method_38_code
def yX0_fault : MethodName := ⟨RX0, "fault", "()I"⟩
theorem dX0_fault_0 : decode cX0_fault 0 = .ok (.aload_n 0, 1) := by decide +kernel
theorem dX0_fault_1 : decode cX0_fault 1 = .ok (.getfield 356, 3) := by decide +kernel
theorem dX0_fault_4 : decode cX0_fault 4 = .ok (.ireturn, 1) := by decide +kernel
abbrev cX0_why : ByteArray := prog_1_method_43_code
def yX0_why : MethodName := ⟨RX0, "why", "(III)I"⟩
def dkwX0_why_1 : List UInt8 := [172]
abbrev dktX0_why_1 : List UInt8 := dkwX0_why_1 ++ []
def dkwX0_why_0 : List UInt8 := [42, 27, 28, 29, 182, 1, 133, 154, 0, 5, 2, 172, 42, 27, 28, 29, 182, 1, 137, 42, 3, 182, 1, 140]
abbrev dktX0_why_0 : List UInt8 := dkwX0_why_0 ++ dktX0_why_1
theorem dksX0_why_0 : cX0_why.data.toList.drop 0 = dktX0_why_0 := by decide +kernel
theorem dksX0_why_1 : cX0_why.data.toList.drop 24 = dktX0_why_1 := dk_seg dksX0_why_0 24 rfl rfl
theorem dX0_why_0 : decode cX0_why 0 = .ok (.aload_n 0, 1) := dk_42 (dk_at dksX0_why_0 0 rfl rfl)
theorem dX0_why_1 : decode cX0_why 1 = .ok (.iload_n 1, 1) := dk_27 (dk_at dksX0_why_0 1 rfl rfl)
theorem dX0_why_2 : decode cX0_why 2 = .ok (.iload_n 2, 1) := dk_28 (dk_at dksX0_why_0 2 rfl rfl)
theorem dX0_why_3 : decode cX0_why 3 = .ok (.iload_n 3, 1) := dk_29 (dk_at dksX0_why_0 3 rfl rfl)
theorem dX0_why_4 : decode cX0_why 4 = .ok (.invokevirtual 389, 3) := dk_182 1 133 (dk_at dksX0_why_0 4 rfl rfl)
theorem dX0_why_7 : decode cX0_why 7 = .ok (.ifCond .ne 5, 3) := dk_154 0 5 (dk_at dksX0_why_0 7 rfl rfl)
theorem dX0_why_10 : decode cX0_why 10 = .ok (.iconst (-1), 1) := dk_2 (dk_at dksX0_why_0 10 rfl rfl)
theorem dX0_why_11 : decode cX0_why 11 = .ok (.ireturn, 1) := dk_172 (dk_at dksX0_why_0 11 rfl rfl)
theorem dX0_why_12 : decode cX0_why 12 = .ok (.aload_n 0, 1) := dk_42 (dk_at dksX0_why_0 12 rfl rfl)
theorem dX0_why_13 : decode cX0_why 13 = .ok (.iload_n 1, 1) := dk_27 (dk_at dksX0_why_0 13 rfl rfl)
theorem dX0_why_14 : decode cX0_why 14 = .ok (.iload_n 2, 1) := dk_28 (dk_at dksX0_why_0 14 rfl rfl)
theorem dX0_why_15 : decode cX0_why 15 = .ok (.iload_n 3, 1) := dk_29 (dk_at dksX0_why_0 15 rfl rfl)
theorem dX0_why_16 : decode cX0_why 16 = .ok (.invokevirtual 393, 3) := dk_182 1 137 (dk_at dksX0_why_0 16 rfl rfl)
theorem dX0_why_19 : decode cX0_why 19 = .ok (.aload_n 0, 1) := dk_42 (dk_at dksX0_why_0 19 rfl rfl)
theorem dX0_why_20 : decode cX0_why 20 = .ok (.iconst 0, 1) := dk_3 (dk_at dksX0_why_0 20 rfl rfl)
theorem dX0_why_21 : decode cX0_why 21 = .ok (.invokevirtual 396, 3) := dk_182 1 140 (dk_at dksX0_why_0 21 rfl rfl)
theorem dX0_why_24 : decode cX0_why 24 = .ok (.ireturn, 1) := dk_172 (dk_at dksX0_why_1 0 rfl rfl)
abbrev cX0_isAsked : ByteArray := prog_1_method_41_code
def yX0_isAsked : MethodName := ⟨RX0, "isAsked", "(III)Z"⟩
def dkwX0_isAsked_1 : List UInt8 := [153, 0, 7, 4, 167, 0, 4, 3, 172]
abbrev dktX0_isAsked_1 : List UInt8 := dkwX0_isAsked_1 ++ []
def dkwX0_isAsked_0 : List UInt8 := [42, 27, 182, 0, 104, 153, 0, 26, 28, 184, 1, 55, 153, 0, 19, 29, 133, 10, 20, 0, 21, 184, 0, 9]
abbrev dktX0_isAsked_0 : List UInt8 := dkwX0_isAsked_0 ++ dktX0_isAsked_1
theorem dksX0_isAsked_0 : cX0_isAsked.data.toList.drop 0 = dktX0_isAsked_0 := by decide +kernel
theorem dksX0_isAsked_1 : cX0_isAsked.data.toList.drop 24 = dktX0_isAsked_1 := dk_seg dksX0_isAsked_0 24 rfl rfl
theorem dX0_isAsked_0 : decode cX0_isAsked 0 = .ok (.aload_n 0, 1) := dk_42 (dk_at dksX0_isAsked_0 0 rfl rfl)
theorem dX0_isAsked_1 : decode cX0_isAsked 1 = .ok (.iload_n 1, 1) := dk_27 (dk_at dksX0_isAsked_0 1 rfl rfl)
theorem dX0_isAsked_2 : decode cX0_isAsked 2 = .ok (.invokevirtual 104, 3) := dk_182 0 104 (dk_at dksX0_isAsked_0 2 rfl rfl)
theorem dX0_isAsked_5 : decode cX0_isAsked 5 = .ok (.ifCond .eq 26, 3) := dk_153 0 26 (dk_at dksX0_isAsked_0 5 rfl rfl)
theorem dX0_isAsked_8 : decode cX0_isAsked 8 = .ok (.iload_n 2, 1) := dk_28 (dk_at dksX0_isAsked_0 8 rfl rfl)
theorem dX0_isAsked_9 : decode cX0_isAsked 9 = .ok (.invokestatic 311, 3) := dk_184 1 55 (dk_at dksX0_isAsked_0 9 rfl rfl)
theorem dX0_isAsked_12 : decode cX0_isAsked 12 = .ok (.ifCond .eq 19, 3) := dk_153 0 19 (dk_at dksX0_isAsked_0 12 rfl rfl)
theorem dX0_isAsked_15 : decode cX0_isAsked 15 = .ok (.iload_n 3, 1) := dk_29 (dk_at dksX0_isAsked_0 15 rfl rfl)
theorem dX0_isAsked_16 : decode cX0_isAsked 16 = .ok (.i2l, 1) := dk_133 (dk_at dksX0_isAsked_0 16 rfl rfl)
theorem dX0_isAsked_17 : decode cX0_isAsked 17 = .ok (.lconst 1, 1) := dk_10 (dk_at dksX0_isAsked_0 17 rfl rfl)
theorem dX0_isAsked_18 : decode cX0_isAsked 18 = .ok (.ldc2_w 21, 3) := dk_20 0 21 (dk_at dksX0_isAsked_0 18 rfl rfl)
theorem dX0_isAsked_21 : decode cX0_isAsked 21 = .ok (.invokestatic 9, 3) := dk_184 0 9 (dk_at dksX0_isAsked_0 21 rfl rfl)
theorem dX0_isAsked_24 : decode cX0_isAsked 24 = .ok (.ifCond .eq 7, 3) := dk_153 0 7 (dk_at dksX0_isAsked_1 0 rfl rfl)
theorem dX0_isAsked_27 : decode cX0_isAsked 27 = .ok (.iconst 1, 1) := dk_4 (dk_at dksX0_isAsked_1 3 rfl rfl)
theorem dX0_isAsked_28 : decode cX0_isAsked 28 = .ok (.goto 4, 3) := dk_167 0 4 (dk_at dksX0_isAsked_1 4 rfl rfl)
theorem dX0_isAsked_31 : decode cX0_isAsked 31 = .ok (.iconst 0, 1) := dk_3 (dk_at dksX0_isAsked_1 7 rfl rfl)
theorem dX0_isAsked_32 : decode cX0_isAsked 32 = .ok (.ireturn, 1) := dk_172 (dk_at dksX0_isAsked_1 8 rfl rfl)
abbrev cX0_ask : ByteArray := prog_1_method_42_code
def yX0_ask : MethodName := ⟨RX0, "ask", "(III)V"⟩
def dkwX0_ask_0 : List UInt8 := [42, 182, 1, 58, 42, 42, 180, 0, 86, 27, 50, 28, 29, 182, 1, 129, 177]
abbrev dktX0_ask_0 : List UInt8 := dkwX0_ask_0 ++ []
theorem dksX0_ask_0 : cX0_ask.data.toList.drop 0 = dktX0_ask_0 := by decide +kernel
theorem dX0_ask_0 : decode cX0_ask 0 = .ok (.aload_n 0, 1) := dk_42 (dk_at dksX0_ask_0 0 rfl rfl)
theorem dX0_ask_1 : decode cX0_ask 1 = .ok (.invokevirtual 314, 3) := dk_182 1 58 (dk_at dksX0_ask_0 1 rfl rfl)
theorem dX0_ask_4 : decode cX0_ask 4 = .ok (.aload_n 0, 1) := dk_42 (dk_at dksX0_ask_0 4 rfl rfl)
theorem dX0_ask_5 : decode cX0_ask 5 = .ok (.aload_n 0, 1) := dk_42 (dk_at dksX0_ask_0 5 rfl rfl)
theorem dX0_ask_6 : decode cX0_ask 6 = .ok (.getfield 86, 3) := dk_180 0 86 (dk_at dksX0_ask_0 6 rfl rfl)
theorem dX0_ask_9 : decode cX0_ask 9 = .ok (.iload_n 1, 1) := dk_27 (dk_at dksX0_ask_0 9 rfl rfl)
theorem dX0_ask_10 : decode cX0_ask 10 = .ok (.aaload, 1) := dk_50 (dk_at dksX0_ask_0 10 rfl rfl)
theorem dX0_ask_11 : decode cX0_ask 11 = .ok (.iload_n 2, 1) := dk_28 (dk_at dksX0_ask_0 11 rfl rfl)
theorem dX0_ask_12 : decode cX0_ask 12 = .ok (.iload_n 3, 1) := dk_29 (dk_at dksX0_ask_0 12 rfl rfl)
theorem dX0_ask_13 : decode cX0_ask 13 = .ok (.invokevirtual 385, 3) := dk_182 1 129 (dk_at dksX0_ask_0 13 rfl rfl)
theorem dX0_ask_16 : decode cX0_ask 16 = .ok (.return_, 1) := dk_177 (dk_at dksX0_ask_0 16 rfl rfl)
abbrev cX0_layVars : ByteArray := prog_1_method_39_code
def yX0_layVars : MethodName := ⟨RX0, "layVars", "(LValleyGuides$Route;II)V"⟩
def dkwX0_layVars_4 : List UInt8 := [180, 1, 111, 79, 177]
abbrev dktX0_layVars_4 : List UInt8 := dkwX0_layVars_4 ++ []
def dkwX0_layVars_3 : List UInt8 := [182, 0, 119, 79, 42, 180, 0, 171, 16, 7, 43, 182, 0, 121, 79, 42, 180, 0, 171, 16, 8, 42]
abbrev dktX0_layVars_3 : List UInt8 := dkwX0_layVars_3 ++ dktX0_layVars_4
def dkwX0_layVars_2 : List UInt8 := [180, 0, 171, 7, 43, 182, 0, 116, 79, 42, 180, 0, 171, 8, 29, 79, 42, 180, 0, 171, 16, 6, 43]
abbrev dktX0_layVars_2 : List UInt8 := dkwX0_layVars_2 ++ dktX0_layVars_3
def dkwX0_layVars_1 : List UInt8 := [4, 25, 4, 4, 46, 79, 42, 180, 0, 171, 5, 25, 4, 5, 46, 79, 42, 180, 0, 171, 6, 28, 79, 42]
abbrev dktX0_layVars_1 : List UInt8 := dkwX0_layVars_1 ++ dktX0_layVars_2
def dkwX0_layVars_0 : List UInt8 := [42, 180, 0, 145, 28, 7, 108, 50, 58, 4, 42, 180, 0, 171, 3, 25, 4, 3, 46, 79, 42, 180, 0, 171]
abbrev dktX0_layVars_0 : List UInt8 := dkwX0_layVars_0 ++ dktX0_layVars_1
theorem dksX0_layVars_0 : cX0_layVars.data.toList.drop 0 = dktX0_layVars_0 := by decide +kernel
theorem dksX0_layVars_1 : cX0_layVars.data.toList.drop 24 = dktX0_layVars_1 := dk_seg dksX0_layVars_0 24 rfl rfl
theorem dksX0_layVars_2 : cX0_layVars.data.toList.drop 48 = dktX0_layVars_2 := dk_seg dksX0_layVars_1 24 rfl rfl
theorem dksX0_layVars_3 : cX0_layVars.data.toList.drop 71 = dktX0_layVars_3 := dk_seg dksX0_layVars_2 23 rfl rfl
theorem dksX0_layVars_4 : cX0_layVars.data.toList.drop 93 = dktX0_layVars_4 := dk_seg dksX0_layVars_3 22 rfl rfl
theorem dX0_layVars_0 : decode cX0_layVars 0 = .ok (.aload_n 0, 1) := dk_42 (dk_at dksX0_layVars_0 0 rfl rfl)
theorem dX0_layVars_1 : decode cX0_layVars 1 = .ok (.getfield 145, 3) := dk_180 0 145 (dk_at dksX0_layVars_0 1 rfl rfl)
theorem dX0_layVars_4 : decode cX0_layVars 4 = .ok (.iload_n 2, 1) := dk_28 (dk_at dksX0_layVars_0 4 rfl rfl)
theorem dX0_layVars_5 : decode cX0_layVars 5 = .ok (.iconst 4, 1) := dk_7 (dk_at dksX0_layVars_0 5 rfl rfl)
theorem dX0_layVars_6 : decode cX0_layVars 6 = .ok (.idiv, 1) := dk_108 (dk_at dksX0_layVars_0 6 rfl rfl)
theorem dX0_layVars_7 : decode cX0_layVars 7 = .ok (.aaload, 1) := dk_50 (dk_at dksX0_layVars_0 7 rfl rfl)
theorem dX0_layVars_8 : decode cX0_layVars 8 = .ok (.astore 4, 2) := dk_58 4 (dk_at dksX0_layVars_0 8 rfl rfl)
theorem dX0_layVars_10 : decode cX0_layVars 10 = .ok (.aload_n 0, 1) := dk_42 (dk_at dksX0_layVars_0 10 rfl rfl)
theorem dX0_layVars_11 : decode cX0_layVars 11 = .ok (.getfield 171, 3) := dk_180 0 171 (dk_at dksX0_layVars_0 11 rfl rfl)
theorem dX0_layVars_14 : decode cX0_layVars 14 = .ok (.iconst 0, 1) := dk_3 (dk_at dksX0_layVars_0 14 rfl rfl)
theorem dX0_layVars_15 : decode cX0_layVars 15 = .ok (.aload 4, 2) := dk_25 4 (dk_at dksX0_layVars_0 15 rfl rfl)
theorem dX0_layVars_17 : decode cX0_layVars 17 = .ok (.iconst 0, 1) := dk_3 (dk_at dksX0_layVars_0 17 rfl rfl)
theorem dX0_layVars_18 : decode cX0_layVars 18 = .ok (.iaload, 1) := dk_46 (dk_at dksX0_layVars_0 18 rfl rfl)
theorem dX0_layVars_19 : decode cX0_layVars 19 = .ok (.iastore, 1) := dk_79 (dk_at dksX0_layVars_0 19 rfl rfl)
theorem dX0_layVars_20 : decode cX0_layVars 20 = .ok (.aload_n 0, 1) := dk_42 (dk_at dksX0_layVars_0 20 rfl rfl)
theorem dX0_layVars_21 : decode cX0_layVars 21 = .ok (.getfield 171, 3) := dk_180 0 171 (dk_at dksX0_layVars_0 21 rfl rfl)
theorem dX0_layVars_24 : decode cX0_layVars 24 = .ok (.iconst 1, 1) := dk_4 (dk_at dksX0_layVars_1 0 rfl rfl)
theorem dX0_layVars_25 : decode cX0_layVars 25 = .ok (.aload 4, 2) := dk_25 4 (dk_at dksX0_layVars_1 1 rfl rfl)
theorem dX0_layVars_27 : decode cX0_layVars 27 = .ok (.iconst 1, 1) := dk_4 (dk_at dksX0_layVars_1 3 rfl rfl)
theorem dX0_layVars_28 : decode cX0_layVars 28 = .ok (.iaload, 1) := dk_46 (dk_at dksX0_layVars_1 4 rfl rfl)
theorem dX0_layVars_29 : decode cX0_layVars 29 = .ok (.iastore, 1) := dk_79 (dk_at dksX0_layVars_1 5 rfl rfl)
theorem dX0_layVars_30 : decode cX0_layVars 30 = .ok (.aload_n 0, 1) := dk_42 (dk_at dksX0_layVars_1 6 rfl rfl)
theorem dX0_layVars_31 : decode cX0_layVars 31 = .ok (.getfield 171, 3) := dk_180 0 171 (dk_at dksX0_layVars_1 7 rfl rfl)
theorem dX0_layVars_34 : decode cX0_layVars 34 = .ok (.iconst 2, 1) := dk_5 (dk_at dksX0_layVars_1 10 rfl rfl)
theorem dX0_layVars_35 : decode cX0_layVars 35 = .ok (.aload 4, 2) := dk_25 4 (dk_at dksX0_layVars_1 11 rfl rfl)
theorem dX0_layVars_37 : decode cX0_layVars 37 = .ok (.iconst 2, 1) := dk_5 (dk_at dksX0_layVars_1 13 rfl rfl)
theorem dX0_layVars_38 : decode cX0_layVars 38 = .ok (.iaload, 1) := dk_46 (dk_at dksX0_layVars_1 14 rfl rfl)
theorem dX0_layVars_39 : decode cX0_layVars 39 = .ok (.iastore, 1) := dk_79 (dk_at dksX0_layVars_1 15 rfl rfl)
theorem dX0_layVars_40 : decode cX0_layVars 40 = .ok (.aload_n 0, 1) := dk_42 (dk_at dksX0_layVars_1 16 rfl rfl)
theorem dX0_layVars_41 : decode cX0_layVars 41 = .ok (.getfield 171, 3) := dk_180 0 171 (dk_at dksX0_layVars_1 17 rfl rfl)
theorem dX0_layVars_44 : decode cX0_layVars 44 = .ok (.iconst 3, 1) := dk_6 (dk_at dksX0_layVars_1 20 rfl rfl)
theorem dX0_layVars_45 : decode cX0_layVars 45 = .ok (.iload_n 2, 1) := dk_28 (dk_at dksX0_layVars_1 21 rfl rfl)
theorem dX0_layVars_46 : decode cX0_layVars 46 = .ok (.iastore, 1) := dk_79 (dk_at dksX0_layVars_1 22 rfl rfl)
theorem dX0_layVars_47 : decode cX0_layVars 47 = .ok (.aload_n 0, 1) := dk_42 (dk_at dksX0_layVars_1 23 rfl rfl)
theorem dX0_layVars_48 : decode cX0_layVars 48 = .ok (.getfield 171, 3) := dk_180 0 171 (dk_at dksX0_layVars_2 0 rfl rfl)
theorem dX0_layVars_51 : decode cX0_layVars 51 = .ok (.iconst 4, 1) := dk_7 (dk_at dksX0_layVars_2 3 rfl rfl)
theorem dX0_layVars_52 : decode cX0_layVars 52 = .ok (.aload_n 1, 1) := dk_43 (dk_at dksX0_layVars_2 4 rfl rfl)
theorem dX0_layVars_53 : decode cX0_layVars 53 = .ok (.invokevirtual 116, 3) := dk_182 0 116 (dk_at dksX0_layVars_2 5 rfl rfl)
theorem dX0_layVars_56 : decode cX0_layVars 56 = .ok (.iastore, 1) := dk_79 (dk_at dksX0_layVars_2 8 rfl rfl)
theorem dX0_layVars_57 : decode cX0_layVars 57 = .ok (.aload_n 0, 1) := dk_42 (dk_at dksX0_layVars_2 9 rfl rfl)
theorem dX0_layVars_58 : decode cX0_layVars 58 = .ok (.getfield 171, 3) := dk_180 0 171 (dk_at dksX0_layVars_2 10 rfl rfl)
theorem dX0_layVars_61 : decode cX0_layVars 61 = .ok (.iconst 5, 1) := dk_8 (dk_at dksX0_layVars_2 13 rfl rfl)
theorem dX0_layVars_62 : decode cX0_layVars 62 = .ok (.iload_n 3, 1) := dk_29 (dk_at dksX0_layVars_2 14 rfl rfl)
theorem dX0_layVars_63 : decode cX0_layVars 63 = .ok (.iastore, 1) := dk_79 (dk_at dksX0_layVars_2 15 rfl rfl)
theorem dX0_layVars_64 : decode cX0_layVars 64 = .ok (.aload_n 0, 1) := dk_42 (dk_at dksX0_layVars_2 16 rfl rfl)
theorem dX0_layVars_65 : decode cX0_layVars 65 = .ok (.getfield 171, 3) := dk_180 0 171 (dk_at dksX0_layVars_2 17 rfl rfl)
theorem dX0_layVars_68 : decode cX0_layVars 68 = .ok (.bipush 6, 2) := dk_16 6 (dk_at dksX0_layVars_2 20 rfl rfl)
theorem dX0_layVars_70 : decode cX0_layVars 70 = .ok (.aload_n 1, 1) := dk_43 (dk_at dksX0_layVars_2 22 rfl rfl)
theorem dX0_layVars_71 : decode cX0_layVars 71 = .ok (.invokevirtual 119, 3) := dk_182 0 119 (dk_at dksX0_layVars_3 0 rfl rfl)
theorem dX0_layVars_74 : decode cX0_layVars 74 = .ok (.iastore, 1) := dk_79 (dk_at dksX0_layVars_3 3 rfl rfl)
theorem dX0_layVars_75 : decode cX0_layVars 75 = .ok (.aload_n 0, 1) := dk_42 (dk_at dksX0_layVars_3 4 rfl rfl)
theorem dX0_layVars_76 : decode cX0_layVars 76 = .ok (.getfield 171, 3) := dk_180 0 171 (dk_at dksX0_layVars_3 5 rfl rfl)
theorem dX0_layVars_79 : decode cX0_layVars 79 = .ok (.bipush 7, 2) := dk_16 7 (dk_at dksX0_layVars_3 8 rfl rfl)
theorem dX0_layVars_81 : decode cX0_layVars 81 = .ok (.aload_n 1, 1) := dk_43 (dk_at dksX0_layVars_3 10 rfl rfl)
theorem dX0_layVars_82 : decode cX0_layVars 82 = .ok (.invokevirtual 121, 3) := dk_182 0 121 (dk_at dksX0_layVars_3 11 rfl rfl)
theorem dX0_layVars_85 : decode cX0_layVars 85 = .ok (.iastore, 1) := dk_79 (dk_at dksX0_layVars_3 14 rfl rfl)
theorem dX0_layVars_86 : decode cX0_layVars 86 = .ok (.aload_n 0, 1) := dk_42 (dk_at dksX0_layVars_3 15 rfl rfl)
theorem dX0_layVars_87 : decode cX0_layVars 87 = .ok (.getfield 171, 3) := dk_180 0 171 (dk_at dksX0_layVars_3 16 rfl rfl)
theorem dX0_layVars_90 : decode cX0_layVars 90 = .ok (.bipush 8, 2) := dk_16 8 (dk_at dksX0_layVars_3 19 rfl rfl)
theorem dX0_layVars_92 : decode cX0_layVars 92 = .ok (.aload_n 0, 1) := dk_42 (dk_at dksX0_layVars_3 21 rfl rfl)
theorem dX0_layVars_93 : decode cX0_layVars 93 = .ok (.getfield 367, 3) := dk_180 1 111 (dk_at dksX0_layVars_4 0 rfl rfl)
theorem dX0_layVars_96 : decode cX0_layVars 96 = .ok (.iastore, 1) := dk_79 (dk_at dksX0_layVars_4 3 rfl rfl)
theorem dX0_layVars_97 : decode cX0_layVars 97 = .ok (.return_, 1) := dk_177 (dk_at dksX0_layVars_4 4 rfl rfl)
abbrev cX0_first : ByteArray := prog_1_method_40_code
def yX0_first : MethodName := ⟨RX0, "first", "(I)I"⟩
def dkwX0_first_3 : List UInt8 := [132, 2, 1, 167, 255, 191, 16, 252, 172]
abbrev dktX0_first_3 : List UInt8 := dkwX0_first_3 ++ []
def dkwX0_first_2 : List UInt8 := [185, 0, 125, 2, 0, 192, 1, 114, 180, 1, 119, 42, 180, 0, 171, 182, 1, 123, 4, 160, 0, 5, 28, 172]
abbrev dktX0_first_2 : List UInt8 := dkwX0_first_2 ++ dktX0_first_3
def dkwX0_first_1 : List UInt8 := [185, 0, 125, 2, 0, 192, 1, 114, 180, 1, 116, 27, 160, 0, 32, 42, 180, 0, 168, 28]
abbrev dktX0_first_1 : List UInt8 := dkwX0_first_1 ++ dktX0_first_2
def dkwX0_first_0 : List UInt8 := [3, 61, 28, 42, 180, 0, 168, 185, 0, 110, 1, 0, 162, 0, 58, 42, 180, 0, 168, 28]
abbrev dktX0_first_0 : List UInt8 := dkwX0_first_0 ++ dktX0_first_1
theorem dksX0_first_0 : cX0_first.data.toList.drop 0 = dktX0_first_0 := by decide +kernel
theorem dksX0_first_1 : cX0_first.data.toList.drop 20 = dktX0_first_1 := dk_seg dksX0_first_0 20 rfl rfl
theorem dksX0_first_2 : cX0_first.data.toList.drop 40 = dktX0_first_2 := dk_seg dksX0_first_1 20 rfl rfl
theorem dksX0_first_3 : cX0_first.data.toList.drop 64 = dktX0_first_3 := dk_seg dksX0_first_2 24 rfl rfl
theorem dX0_first_0 : decode cX0_first 0 = .ok (.iconst 0, 1) := dk_3 (dk_at dksX0_first_0 0 rfl rfl)
theorem dX0_first_1 : decode cX0_first 1 = .ok (.istore_n 2, 1) := dk_61 (dk_at dksX0_first_0 1 rfl rfl)
theorem dX0_first_2 : decode cX0_first 2 = .ok (.iload_n 2, 1) := dk_28 (dk_at dksX0_first_0 2 rfl rfl)
theorem dX0_first_3 : decode cX0_first 3 = .ok (.aload_n 0, 1) := dk_42 (dk_at dksX0_first_0 3 rfl rfl)
theorem dX0_first_4 : decode cX0_first 4 = .ok (.getfield 168, 3) := dk_180 0 168 (dk_at dksX0_first_0 4 rfl rfl)
theorem dX0_first_7 : decode cX0_first 7 = .ok (.invokeinterface 110 1, 5) := by decide +kernel
theorem dX0_first_12 : decode cX0_first 12 = .ok (.if_icmp .ge 58, 3) := dk_162 0 58 (dk_at dksX0_first_0 12 rfl rfl)
theorem dX0_first_15 : decode cX0_first 15 = .ok (.aload_n 0, 1) := dk_42 (dk_at dksX0_first_0 15 rfl rfl)
theorem dX0_first_16 : decode cX0_first 16 = .ok (.getfield 168, 3) := dk_180 0 168 (dk_at dksX0_first_0 16 rfl rfl)
theorem dX0_first_19 : decode cX0_first 19 = .ok (.iload_n 2, 1) := dk_28 (dk_at dksX0_first_0 19 rfl rfl)
theorem dX0_first_20 : decode cX0_first 20 = .ok (.invokeinterface 125 2, 5) := by decide +kernel
theorem dX0_first_25 : decode cX0_first 25 = .ok (.checkcast 370, 3) := dk_192 1 114 (dk_at dksX0_first_1 5 rfl rfl)
theorem dX0_first_28 : decode cX0_first 28 = .ok (.getfield 372, 3) := dk_180 1 116 (dk_at dksX0_first_1 8 rfl rfl)
theorem dX0_first_31 : decode cX0_first 31 = .ok (.iload_n 1, 1) := dk_27 (dk_at dksX0_first_1 11 rfl rfl)
theorem dX0_first_32 : decode cX0_first 32 = .ok (.if_icmp .ne 32, 3) := dk_160 0 32 (dk_at dksX0_first_1 12 rfl rfl)
theorem dX0_first_35 : decode cX0_first 35 = .ok (.aload_n 0, 1) := dk_42 (dk_at dksX0_first_1 15 rfl rfl)
theorem dX0_first_36 : decode cX0_first 36 = .ok (.getfield 168, 3) := dk_180 0 168 (dk_at dksX0_first_1 16 rfl rfl)
theorem dX0_first_39 : decode cX0_first 39 = .ok (.iload_n 2, 1) := dk_28 (dk_at dksX0_first_1 19 rfl rfl)
theorem dX0_first_40 : decode cX0_first 40 = .ok (.invokeinterface 125 2, 5) := by decide +kernel
theorem dX0_first_45 : decode cX0_first 45 = .ok (.checkcast 370, 3) := dk_192 1 114 (dk_at dksX0_first_2 5 rfl rfl)
theorem dX0_first_48 : decode cX0_first 48 = .ok (.getfield 375, 3) := dk_180 1 119 (dk_at dksX0_first_2 8 rfl rfl)
theorem dX0_first_51 : decode cX0_first 51 = .ok (.aload_n 0, 1) := dk_42 (dk_at dksX0_first_2 11 rfl rfl)
theorem dX0_first_52 : decode cX0_first 52 = .ok (.getfield 171, 3) := dk_180 0 171 (dk_at dksX0_first_2 12 rfl rfl)
theorem dX0_first_55 : decode cX0_first 55 = .ok (.invokevirtual 379, 3) := dk_182 1 123 (dk_at dksX0_first_2 15 rfl rfl)
theorem dX0_first_58 : decode cX0_first 58 = .ok (.iconst 1, 1) := dk_4 (dk_at dksX0_first_2 18 rfl rfl)
theorem dX0_first_59 : decode cX0_first 59 = .ok (.if_icmp .ne 5, 3) := dk_160 0 5 (dk_at dksX0_first_2 19 rfl rfl)
theorem dX0_first_62 : decode cX0_first 62 = .ok (.iload_n 2, 1) := dk_28 (dk_at dksX0_first_2 22 rfl rfl)
theorem dX0_first_63 : decode cX0_first 63 = .ok (.ireturn, 1) := dk_172 (dk_at dksX0_first_2 23 rfl rfl)
theorem dX0_first_64 : decode cX0_first 64 = .ok (.iinc 2 1, 3) := dk_132 2 1 (dk_at dksX0_first_3 0 rfl rfl)
theorem dX0_first_67 : decode cX0_first 67 = .ok (.goto (-65), 3) := dk_167 255 191 (dk_at dksX0_first_3 3 rfl rfl)
theorem dX0_first_70 : decode cX0_first 70 = .ok (.bipush (-4), 2) := dk_16 252 (dk_at dksX0_first_3 6 rfl rfl)
theorem dX0_first_72 : decode cX0_first 72 = .ok (.ireturn, 1) := dk_172 (dk_at dksX0_first_3 8 rfl rfl)
abbrev cX0_held : ByteArray := prog_1_method_34_code
def yX0_held : MethodName := ⟨RX0, "held", "(J)I"⟩
def dkwX0_held_0 : List UInt8 := [20, 1, 73, 20, 1, 75, 30, 184, 1, 77, 184, 1, 80, 136, 172]
abbrev dktX0_held_0 : List UInt8 := dkwX0_held_0 ++ []
theorem dksX0_held_0 : cX0_held.data.toList.drop 0 = dktX0_held_0 := by decide +kernel
theorem dX0_held_0 : decode cX0_held 0 = .ok (.ldc2_w 329, 3) := dk_20 1 73 (dk_at dksX0_held_0 0 rfl rfl)
theorem dX0_held_3 : decode cX0_held 3 = .ok (.ldc2_w 331, 3) := dk_20 1 75 (dk_at dksX0_held_0 3 rfl rfl)
theorem dX0_held_6 : decode cX0_held 6 = .ok (.lload_n 0, 1) := dk_30 (dk_at dksX0_held_0 6 rfl rfl)
theorem dX0_held_7 : decode cX0_held 7 = .ok (.invokestatic 333, 3) := dk_184 1 77 (dk_at dksX0_held_0 7 rfl rfl)
theorem dX0_held_10 : decode cX0_held 10 = .ok (.invokestatic 336, 3) := dk_184 1 80 (dk_at dksX0_held_0 10 rfl rfl)
theorem dX0_held_13 : decode cX0_held 13 = .ok (.l2i, 1) := dk_136 (dk_at dksX0_held_0 13 rfl rfl)
theorem dX0_held_14 : decode cX0_held 14 = .ok (.ireturn, 1) := dk_172 (dk_at dksX0_held_0 14 rfl rfl)
abbrev cX0_pay : ByteArray := prog_1_method_46_code
def yX0_pay : MethodName := ⟨RX0, "pay", "(III)I"⟩
def dkwX0_pay_0 : List UInt8 := [42, 27, 28, 29, 182, 1, 133, 154, 0, 5, 2, 172, 42, 27, 28, 29, 182, 1, 137, 42, 182, 1, 143, 172]
abbrev dktX0_pay_0 : List UInt8 := dkwX0_pay_0 ++ []
theorem dksX0_pay_0 : cX0_pay.data.toList.drop 0 = dktX0_pay_0 := by decide +kernel
theorem dX0_pay_0 : decode cX0_pay 0 = .ok (.aload_n 0, 1) := dk_42 (dk_at dksX0_pay_0 0 rfl rfl)
theorem dX0_pay_1 : decode cX0_pay 1 = .ok (.iload_n 1, 1) := dk_27 (dk_at dksX0_pay_0 1 rfl rfl)
theorem dX0_pay_2 : decode cX0_pay 2 = .ok (.iload_n 2, 1) := dk_28 (dk_at dksX0_pay_0 2 rfl rfl)
theorem dX0_pay_3 : decode cX0_pay 3 = .ok (.iload_n 3, 1) := dk_29 (dk_at dksX0_pay_0 3 rfl rfl)
theorem dX0_pay_4 : decode cX0_pay 4 = .ok (.invokevirtual 389, 3) := dk_182 1 133 (dk_at dksX0_pay_0 4 rfl rfl)
theorem dX0_pay_7 : decode cX0_pay 7 = .ok (.ifCond .ne 5, 3) := dk_154 0 5 (dk_at dksX0_pay_0 7 rfl rfl)
theorem dX0_pay_10 : decode cX0_pay 10 = .ok (.iconst (-1), 1) := dk_2 (dk_at dksX0_pay_0 10 rfl rfl)
theorem dX0_pay_11 : decode cX0_pay 11 = .ok (.ireturn, 1) := dk_172 (dk_at dksX0_pay_0 11 rfl rfl)
theorem dX0_pay_12 : decode cX0_pay 12 = .ok (.aload_n 0, 1) := dk_42 (dk_at dksX0_pay_0 12 rfl rfl)
theorem dX0_pay_13 : decode cX0_pay 13 = .ok (.iload_n 1, 1) := dk_27 (dk_at dksX0_pay_0 13 rfl rfl)
theorem dX0_pay_14 : decode cX0_pay 14 = .ok (.iload_n 2, 1) := dk_28 (dk_at dksX0_pay_0 14 rfl rfl)
theorem dX0_pay_15 : decode cX0_pay 15 = .ok (.iload_n 3, 1) := dk_29 (dk_at dksX0_pay_0 15 rfl rfl)
theorem dX0_pay_16 : decode cX0_pay 16 = .ok (.invokevirtual 393, 3) := dk_182 1 137 (dk_at dksX0_pay_0 16 rfl rfl)
theorem dX0_pay_19 : decode cX0_pay 19 = .ok (.aload_n 0, 1) := dk_42 (dk_at dksX0_pay_0 19 rfl rfl)
theorem dX0_pay_20 : decode cX0_pay 20 = .ok (.invokevirtual 399, 3) := dk_182 1 143 (dk_at dksX0_pay_0 20 rfl rfl)
theorem dX0_pay_23 : decode cX0_pay 23 = .ok (.ireturn, 1) := dk_172 (dk_at dksX0_pay_0 23 rfl rfl)
abbrev cX0_paid : ByteArray := prog_1_method_44_code
def yX0_paid : MethodName := ⟨RX0, "paid", "()I"⟩
def dkwX0_paid_3 : List UInt8 := [64, 132, 3, 1, 167, 255, 189, 9, 20, 1, 75, 31, 184, 1, 77, 184, 1, 80, 136, 172]
abbrev dktX0_paid_3 : List UInt8 := dkwX0_paid_3 ++ []
def dkwX0_paid_2 : List UInt8 := [185, 0, 125, 2, 0, 192, 1, 114, 180, 1, 119, 42, 180, 0, 171, 182, 1, 123, 133, 167, 0, 4, 9, 97]
abbrev dktX0_paid_2 : List UInt8 := dkwX0_paid_2 ++ dktX0_paid_3
def dkwX0_paid_1 : List UInt8 := [185, 0, 125, 2, 0, 192, 1, 114, 180, 1, 116, 4, 160, 0, 30, 42, 180, 0, 168, 29]
abbrev dktX0_paid_1 : List UInt8 := dkwX0_paid_1 ++ dktX0_paid_2
def dkwX0_paid_0 : List UInt8 := [9, 64, 3, 62, 29, 42, 180, 0, 168, 185, 0, 110, 1, 0, 162, 0, 60, 31, 42, 180, 0, 168, 29]
abbrev dktX0_paid_0 : List UInt8 := dkwX0_paid_0 ++ dktX0_paid_1
theorem dksX0_paid_0 : cX0_paid.data.toList.drop 0 = dktX0_paid_0 := by decide +kernel
theorem dksX0_paid_1 : cX0_paid.data.toList.drop 23 = dktX0_paid_1 := dk_seg dksX0_paid_0 23 rfl rfl
theorem dksX0_paid_2 : cX0_paid.data.toList.drop 43 = dktX0_paid_2 := dk_seg dksX0_paid_1 20 rfl rfl
theorem dksX0_paid_3 : cX0_paid.data.toList.drop 67 = dktX0_paid_3 := dk_seg dksX0_paid_2 24 rfl rfl
theorem dX0_paid_0 : decode cX0_paid 0 = .ok (.lconst 0, 1) := dk_9 (dk_at dksX0_paid_0 0 rfl rfl)
theorem dX0_paid_1 : decode cX0_paid 1 = .ok (.lstore_n 1, 1) := dk_64 (dk_at dksX0_paid_0 1 rfl rfl)
theorem dX0_paid_2 : decode cX0_paid 2 = .ok (.iconst 0, 1) := dk_3 (dk_at dksX0_paid_0 2 rfl rfl)
theorem dX0_paid_3 : decode cX0_paid 3 = .ok (.istore_n 3, 1) := dk_62 (dk_at dksX0_paid_0 3 rfl rfl)
theorem dX0_paid_4 : decode cX0_paid 4 = .ok (.iload_n 3, 1) := dk_29 (dk_at dksX0_paid_0 4 rfl rfl)
theorem dX0_paid_5 : decode cX0_paid 5 = .ok (.aload_n 0, 1) := dk_42 (dk_at dksX0_paid_0 5 rfl rfl)
theorem dX0_paid_6 : decode cX0_paid 6 = .ok (.getfield 168, 3) := dk_180 0 168 (dk_at dksX0_paid_0 6 rfl rfl)
theorem dX0_paid_9 : decode cX0_paid 9 = .ok (.invokeinterface 110 1, 5) := by decide +kernel
theorem dX0_paid_14 : decode cX0_paid 14 = .ok (.if_icmp .ge 60, 3) := dk_162 0 60 (dk_at dksX0_paid_0 14 rfl rfl)
theorem dX0_paid_17 : decode cX0_paid 17 = .ok (.lload_n 1, 1) := dk_31 (dk_at dksX0_paid_0 17 rfl rfl)
theorem dX0_paid_18 : decode cX0_paid 18 = .ok (.aload_n 0, 1) := dk_42 (dk_at dksX0_paid_0 18 rfl rfl)
theorem dX0_paid_19 : decode cX0_paid 19 = .ok (.getfield 168, 3) := dk_180 0 168 (dk_at dksX0_paid_0 19 rfl rfl)
theorem dX0_paid_22 : decode cX0_paid 22 = .ok (.iload_n 3, 1) := dk_29 (dk_at dksX0_paid_0 22 rfl rfl)
theorem dX0_paid_23 : decode cX0_paid 23 = .ok (.invokeinterface 125 2, 5) := by decide +kernel
theorem dX0_paid_28 : decode cX0_paid 28 = .ok (.checkcast 370, 3) := dk_192 1 114 (dk_at dksX0_paid_1 5 rfl rfl)
theorem dX0_paid_31 : decode cX0_paid 31 = .ok (.getfield 372, 3) := dk_180 1 116 (dk_at dksX0_paid_1 8 rfl rfl)
theorem dX0_paid_34 : decode cX0_paid 34 = .ok (.iconst 1, 1) := dk_4 (dk_at dksX0_paid_1 11 rfl rfl)
theorem dX0_paid_35 : decode cX0_paid 35 = .ok (.if_icmp .ne 30, 3) := dk_160 0 30 (dk_at dksX0_paid_1 12 rfl rfl)
theorem dX0_paid_38 : decode cX0_paid 38 = .ok (.aload_n 0, 1) := dk_42 (dk_at dksX0_paid_1 15 rfl rfl)
theorem dX0_paid_39 : decode cX0_paid 39 = .ok (.getfield 168, 3) := dk_180 0 168 (dk_at dksX0_paid_1 16 rfl rfl)
theorem dX0_paid_42 : decode cX0_paid 42 = .ok (.iload_n 3, 1) := dk_29 (dk_at dksX0_paid_1 19 rfl rfl)
theorem dX0_paid_43 : decode cX0_paid 43 = .ok (.invokeinterface 125 2, 5) := by decide +kernel
theorem dX0_paid_48 : decode cX0_paid 48 = .ok (.checkcast 370, 3) := dk_192 1 114 (dk_at dksX0_paid_2 5 rfl rfl)
theorem dX0_paid_51 : decode cX0_paid 51 = .ok (.getfield 375, 3) := dk_180 1 119 (dk_at dksX0_paid_2 8 rfl rfl)
theorem dX0_paid_54 : decode cX0_paid 54 = .ok (.aload_n 0, 1) := dk_42 (dk_at dksX0_paid_2 11 rfl rfl)
theorem dX0_paid_55 : decode cX0_paid 55 = .ok (.getfield 171, 3) := dk_180 0 171 (dk_at dksX0_paid_2 12 rfl rfl)
theorem dX0_paid_58 : decode cX0_paid 58 = .ok (.invokevirtual 379, 3) := dk_182 1 123 (dk_at dksX0_paid_2 15 rfl rfl)
theorem dX0_paid_61 : decode cX0_paid 61 = .ok (.i2l, 1) := dk_133 (dk_at dksX0_paid_2 18 rfl rfl)
theorem dX0_paid_62 : decode cX0_paid 62 = .ok (.goto 4, 3) := dk_167 0 4 (dk_at dksX0_paid_2 19 rfl rfl)
theorem dX0_paid_65 : decode cX0_paid 65 = .ok (.lconst 0, 1) := dk_9 (dk_at dksX0_paid_2 22 rfl rfl)
theorem dX0_paid_66 : decode cX0_paid 66 = .ok (.ladd, 1) := dk_97 (dk_at dksX0_paid_2 23 rfl rfl)
theorem dX0_paid_67 : decode cX0_paid 67 = .ok (.lstore_n 1, 1) := dk_64 (dk_at dksX0_paid_3 0 rfl rfl)
theorem dX0_paid_68 : decode cX0_paid 68 = .ok (.iinc 3 1, 3) := dk_132 3 1 (dk_at dksX0_paid_3 1 rfl rfl)
theorem dX0_paid_71 : decode cX0_paid 71 = .ok (.goto (-67), 3) := dk_167 255 189 (dk_at dksX0_paid_3 4 rfl rfl)
theorem dX0_paid_74 : decode cX0_paid 74 = .ok (.lconst 0, 1) := dk_9 (dk_at dksX0_paid_3 7 rfl rfl)
theorem dX0_paid_75 : decode cX0_paid 75 = .ok (.ldc2_w 331, 3) := dk_20 1 75 (dk_at dksX0_paid_3 8 rfl rfl)
theorem dX0_paid_78 : decode cX0_paid 78 = .ok (.lload_n 1, 1) := dk_31 (dk_at dksX0_paid_3 11 rfl rfl)
theorem dX0_paid_79 : decode cX0_paid 79 = .ok (.invokestatic 333, 3) := dk_184 1 77 (dk_at dksX0_paid_3 12 rfl rfl)
theorem dX0_paid_82 : decode cX0_paid 82 = .ok (.invokestatic 336, 3) := dk_184 1 80 (dk_at dksX0_paid_3 15 rfl rfl)
theorem dX0_paid_85 : decode cX0_paid 85 = .ok (.l2i, 1) := dk_136 (dk_at dksX0_paid_3 18 rfl rfl)
theorem dX0_paid_86 : decode cX0_paid 86 = .ok (.ireturn, 1) := dk_172 (dk_at dksX0_paid_3 19 rfl rfl)
abbrev cX0_asked : ByteArray := prog_1_method_47_code
def yX0_asked : MethodName := ⟨RX0, "asked", "(III)I"⟩
def dkwX0_asked_0 : List UInt8 := [42, 27, 28, 29, 182, 1, 133, 154, 0, 5, 2, 172, 42, 27, 28, 29, 182, 1, 137, 42, 182, 1, 146, 172]
abbrev dktX0_asked_0 : List UInt8 := dkwX0_asked_0 ++ []
theorem dksX0_asked_0 : cX0_asked.data.toList.drop 0 = dktX0_asked_0 := by decide +kernel
theorem dX0_asked_0 : decode cX0_asked 0 = .ok (.aload_n 0, 1) := dk_42 (dk_at dksX0_asked_0 0 rfl rfl)
theorem dX0_asked_1 : decode cX0_asked 1 = .ok (.iload_n 1, 1) := dk_27 (dk_at dksX0_asked_0 1 rfl rfl)
theorem dX0_asked_2 : decode cX0_asked 2 = .ok (.iload_n 2, 1) := dk_28 (dk_at dksX0_asked_0 2 rfl rfl)
theorem dX0_asked_3 : decode cX0_asked 3 = .ok (.iload_n 3, 1) := dk_29 (dk_at dksX0_asked_0 3 rfl rfl)
theorem dX0_asked_4 : decode cX0_asked 4 = .ok (.invokevirtual 389, 3) := dk_182 1 133 (dk_at dksX0_asked_0 4 rfl rfl)
theorem dX0_asked_7 : decode cX0_asked 7 = .ok (.ifCond .ne 5, 3) := dk_154 0 5 (dk_at dksX0_asked_0 7 rfl rfl)
theorem dX0_asked_10 : decode cX0_asked 10 = .ok (.iconst (-1), 1) := dk_2 (dk_at dksX0_asked_0 10 rfl rfl)
theorem dX0_asked_11 : decode cX0_asked 11 = .ok (.ireturn, 1) := dk_172 (dk_at dksX0_asked_0 11 rfl rfl)
theorem dX0_asked_12 : decode cX0_asked 12 = .ok (.aload_n 0, 1) := dk_42 (dk_at dksX0_asked_0 12 rfl rfl)
theorem dX0_asked_13 : decode cX0_asked 13 = .ok (.iload_n 1, 1) := dk_27 (dk_at dksX0_asked_0 13 rfl rfl)
theorem dX0_asked_14 : decode cX0_asked 14 = .ok (.iload_n 2, 1) := dk_28 (dk_at dksX0_asked_0 14 rfl rfl)
theorem dX0_asked_15 : decode cX0_asked 15 = .ok (.iload_n 3, 1) := dk_29 (dk_at dksX0_asked_0 15 rfl rfl)
theorem dX0_asked_16 : decode cX0_asked 16 = .ok (.invokevirtual 393, 3) := dk_182 1 137 (dk_at dksX0_asked_0 16 rfl rfl)
theorem dX0_asked_19 : decode cX0_asked 19 = .ok (.aload_n 0, 1) := dk_42 (dk_at dksX0_asked_0 19 rfl rfl)
theorem dX0_asked_20 : decode cX0_asked 20 = .ok (.invokevirtual 402, 3) := dk_182 1 146 (dk_at dksX0_asked_0 20 rfl rfl)
theorem dX0_asked_23 : decode cX0_asked 23 = .ok (.ireturn, 1) := dk_172 (dk_at dksX0_asked_0 23 rfl rfl)
abbrev cX0_wanted : ByteArray := prog_1_method_45_code
def yX0_wanted : MethodName := ⟨RX0, "wanted", "()I"⟩
def dkwX0_wanted_3 : List UInt8 := [27, 60, 132, 2, 1, 167, 255, 188, 16, 8, 27, 184, 1, 24, 172]
abbrev dktX0_wanted_3 : List UInt8 := dkwX0_wanted_3 ++ []
def dkwX0_wanted_2 : List UInt8 := [185, 0, 125, 2, 0, 192, 1, 114, 180, 1, 119, 42, 180, 0, 171, 182, 1, 123, 184, 1, 27, 167, 0, 4]
abbrev dktX0_wanted_2 : List UInt8 := dkwX0_wanted_2 ++ dktX0_wanted_3
def dkwX0_wanted_1 : List UInt8 := [185, 0, 125, 2, 0, 192, 1, 114, 180, 1, 116, 5, 160, 0, 33, 27, 42, 180, 0, 168, 28]
abbrev dktX0_wanted_1 : List UInt8 := dkwX0_wanted_1 ++ dktX0_wanted_2
def dkwX0_wanted_0 : List UInt8 := [4, 60, 3, 61, 28, 42, 180, 0, 168, 185, 0, 110, 1, 0, 162, 0, 61, 42, 180, 0, 168, 28]
abbrev dktX0_wanted_0 : List UInt8 := dkwX0_wanted_0 ++ dktX0_wanted_1
theorem dksX0_wanted_0 : cX0_wanted.data.toList.drop 0 = dktX0_wanted_0 := by decide +kernel
theorem dksX0_wanted_1 : cX0_wanted.data.toList.drop 22 = dktX0_wanted_1 := dk_seg dksX0_wanted_0 22 rfl rfl
theorem dksX0_wanted_2 : cX0_wanted.data.toList.drop 43 = dktX0_wanted_2 := dk_seg dksX0_wanted_1 21 rfl rfl
theorem dksX0_wanted_3 : cX0_wanted.data.toList.drop 67 = dktX0_wanted_3 := dk_seg dksX0_wanted_2 24 rfl rfl
theorem dX0_wanted_0 : decode cX0_wanted 0 = .ok (.iconst 1, 1) := dk_4 (dk_at dksX0_wanted_0 0 rfl rfl)
theorem dX0_wanted_1 : decode cX0_wanted 1 = .ok (.istore_n 1, 1) := dk_60 (dk_at dksX0_wanted_0 1 rfl rfl)
theorem dX0_wanted_2 : decode cX0_wanted 2 = .ok (.iconst 0, 1) := dk_3 (dk_at dksX0_wanted_0 2 rfl rfl)
theorem dX0_wanted_3 : decode cX0_wanted 3 = .ok (.istore_n 2, 1) := dk_61 (dk_at dksX0_wanted_0 3 rfl rfl)
theorem dX0_wanted_4 : decode cX0_wanted 4 = .ok (.iload_n 2, 1) := dk_28 (dk_at dksX0_wanted_0 4 rfl rfl)
theorem dX0_wanted_5 : decode cX0_wanted 5 = .ok (.aload_n 0, 1) := dk_42 (dk_at dksX0_wanted_0 5 rfl rfl)
theorem dX0_wanted_6 : decode cX0_wanted 6 = .ok (.getfield 168, 3) := dk_180 0 168 (dk_at dksX0_wanted_0 6 rfl rfl)
theorem dX0_wanted_9 : decode cX0_wanted 9 = .ok (.invokeinterface 110 1, 5) := by decide +kernel
theorem dX0_wanted_14 : decode cX0_wanted 14 = .ok (.if_icmp .ge 61, 3) := dk_162 0 61 (dk_at dksX0_wanted_0 14 rfl rfl)
theorem dX0_wanted_17 : decode cX0_wanted 17 = .ok (.aload_n 0, 1) := dk_42 (dk_at dksX0_wanted_0 17 rfl rfl)
theorem dX0_wanted_18 : decode cX0_wanted 18 = .ok (.getfield 168, 3) := dk_180 0 168 (dk_at dksX0_wanted_0 18 rfl rfl)
theorem dX0_wanted_21 : decode cX0_wanted 21 = .ok (.iload_n 2, 1) := dk_28 (dk_at dksX0_wanted_0 21 rfl rfl)
theorem dX0_wanted_22 : decode cX0_wanted 22 = .ok (.invokeinterface 125 2, 5) := by decide +kernel
theorem dX0_wanted_27 : decode cX0_wanted 27 = .ok (.checkcast 370, 3) := dk_192 1 114 (dk_at dksX0_wanted_1 5 rfl rfl)
theorem dX0_wanted_30 : decode cX0_wanted 30 = .ok (.getfield 372, 3) := dk_180 1 116 (dk_at dksX0_wanted_1 8 rfl rfl)
theorem dX0_wanted_33 : decode cX0_wanted 33 = .ok (.iconst 2, 1) := dk_5 (dk_at dksX0_wanted_1 11 rfl rfl)
theorem dX0_wanted_34 : decode cX0_wanted 34 = .ok (.if_icmp .ne 33, 3) := dk_160 0 33 (dk_at dksX0_wanted_1 12 rfl rfl)
theorem dX0_wanted_37 : decode cX0_wanted 37 = .ok (.iload_n 1, 1) := dk_27 (dk_at dksX0_wanted_1 15 rfl rfl)
theorem dX0_wanted_38 : decode cX0_wanted 38 = .ok (.aload_n 0, 1) := dk_42 (dk_at dksX0_wanted_1 16 rfl rfl)
theorem dX0_wanted_39 : decode cX0_wanted 39 = .ok (.getfield 168, 3) := dk_180 0 168 (dk_at dksX0_wanted_1 17 rfl rfl)
theorem dX0_wanted_42 : decode cX0_wanted 42 = .ok (.iload_n 2, 1) := dk_28 (dk_at dksX0_wanted_1 20 rfl rfl)
theorem dX0_wanted_43 : decode cX0_wanted 43 = .ok (.invokeinterface 125 2, 5) := by decide +kernel
theorem dX0_wanted_48 : decode cX0_wanted 48 = .ok (.checkcast 370, 3) := dk_192 1 114 (dk_at dksX0_wanted_2 5 rfl rfl)
theorem dX0_wanted_51 : decode cX0_wanted 51 = .ok (.getfield 375, 3) := dk_180 1 119 (dk_at dksX0_wanted_2 8 rfl rfl)
theorem dX0_wanted_54 : decode cX0_wanted 54 = .ok (.aload_n 0, 1) := dk_42 (dk_at dksX0_wanted_2 11 rfl rfl)
theorem dX0_wanted_55 : decode cX0_wanted 55 = .ok (.getfield 171, 3) := dk_180 0 171 (dk_at dksX0_wanted_2 12 rfl rfl)
theorem dX0_wanted_58 : decode cX0_wanted 58 = .ok (.invokevirtual 379, 3) := dk_182 1 123 (dk_at dksX0_wanted_2 15 rfl rfl)
theorem dX0_wanted_61 : decode cX0_wanted 61 = .ok (.invokestatic 283, 3) := dk_184 1 27 (dk_at dksX0_wanted_2 18 rfl rfl)
theorem dX0_wanted_64 : decode cX0_wanted 64 = .ok (.goto 4, 3) := dk_167 0 4 (dk_at dksX0_wanted_2 21 rfl rfl)
theorem dX0_wanted_67 : decode cX0_wanted 67 = .ok (.iload_n 1, 1) := dk_27 (dk_at dksX0_wanted_3 0 rfl rfl)
theorem dX0_wanted_68 : decode cX0_wanted 68 = .ok (.istore_n 1, 1) := dk_60 (dk_at dksX0_wanted_3 1 rfl rfl)
theorem dX0_wanted_69 : decode cX0_wanted 69 = .ok (.iinc 2 1, 3) := dk_132 2 1 (dk_at dksX0_wanted_3 2 rfl rfl)
theorem dX0_wanted_72 : decode cX0_wanted 72 = .ok (.goto (-68), 3) := dk_167 255 188 (dk_at dksX0_wanted_3 5 rfl rfl)
theorem dX0_wanted_75 : decode cX0_wanted 75 = .ok (.bipush 8, 2) := dk_16 8 (dk_at dksX0_wanted_3 8 rfl rfl)
theorem dX0_wanted_77 : decode cX0_wanted 77 = .ok (.iload_n 1, 1) := dk_27 (dk_at dksX0_wanted_3 10 rfl rfl)
theorem dX0_wanted_78 : decode cX0_wanted 78 = .ok (.invokestatic 280, 3) := dk_184 1 24 (dk_at dksX0_wanted_3 11 rfl rfl)
theorem dX0_wanted_81 : decode cX0_wanted 81 = .ok (.ireturn, 1) := dk_172 (dk_at dksX0_wanted_3 14 rfl rfl)
abbrev cX0_guide : ByteArray := prog_1_method_49_code
def yX0_guide : MethodName := ⟨RX0, "guide", "(III)I"⟩
def dkwX0_guide_4 : List UInt8 := [96, 181, 1, 149, 42, 180, 1, 149, 4, 100, 172]
abbrev dktX0_guide_4 : List UInt8 := dkwX0_guide_4 ++ []
def dkwX0_guide_3 : List UInt8 := [180, 0, 180, 42, 180, 0, 176, 42, 180, 1, 149, 50, 185, 0, 98, 2, 0, 87, 42, 89, 180, 1, 149, 4]
abbrev dktX0_guide_3 : List UInt8 := dkwX0_guide_3 ++ dktX0_guide_4
def dkwX0_guide_2 : List UInt8 := [180, 0, 176, 42, 180, 1, 149, 187, 0, 174, 89, 42, 180, 1, 149, 27, 28, 29, 183, 1, 154, 83, 42]
abbrev dktX0_guide_2 : List UInt8 := dkwX0_guide_2 ++ dktX0_guide_3
def dkwX0_guide_1 : List UInt8 := [20, 1, 152, 184, 0, 9, 154, 0, 5, 2, 172, 42, 180, 1, 149, 16, 8, 160, 0, 6, 16, 253, 172, 42]
abbrev dktX0_guide_1 : List UInt8 := dkwX0_guide_1 ++ dktX0_guide_2
def dkwX0_guide_0 : List UInt8 := [27, 133, 9, 20, 0, 51, 184, 0, 9, 153, 0, 22, 28, 184, 1, 52, 153, 0, 15, 29, 133, 9]
abbrev dktX0_guide_0 : List UInt8 := dkwX0_guide_0 ++ dktX0_guide_1
theorem dksX0_guide_0 : cX0_guide.data.toList.drop 0 = dktX0_guide_0 := by decide +kernel
theorem dksX0_guide_1 : cX0_guide.data.toList.drop 22 = dktX0_guide_1 := dk_seg dksX0_guide_0 22 rfl rfl
theorem dksX0_guide_2 : cX0_guide.data.toList.drop 46 = dktX0_guide_2 := dk_seg dksX0_guide_1 24 rfl rfl
theorem dksX0_guide_3 : cX0_guide.data.toList.drop 69 = dktX0_guide_3 := dk_seg dksX0_guide_2 23 rfl rfl
theorem dksX0_guide_4 : cX0_guide.data.toList.drop 93 = dktX0_guide_4 := dk_seg dksX0_guide_3 24 rfl rfl
theorem dX0_guide_0 : decode cX0_guide 0 = .ok (.iload_n 1, 1) := dk_27 (dk_at dksX0_guide_0 0 rfl rfl)
theorem dX0_guide_1 : decode cX0_guide 1 = .ok (.i2l, 1) := dk_133 (dk_at dksX0_guide_0 1 rfl rfl)
theorem dX0_guide_2 : decode cX0_guide 2 = .ok (.lconst 0, 1) := dk_9 (dk_at dksX0_guide_0 2 rfl rfl)
theorem dX0_guide_3 : decode cX0_guide 3 = .ok (.ldc2_w 51, 3) := dk_20 0 51 (dk_at dksX0_guide_0 3 rfl rfl)
theorem dX0_guide_6 : decode cX0_guide 6 = .ok (.invokestatic 9, 3) := dk_184 0 9 (dk_at dksX0_guide_0 6 rfl rfl)
theorem dX0_guide_9 : decode cX0_guide 9 = .ok (.ifCond .eq 22, 3) := dk_153 0 22 (dk_at dksX0_guide_0 9 rfl rfl)
theorem dX0_guide_12 : decode cX0_guide 12 = .ok (.iload_n 2, 1) := dk_28 (dk_at dksX0_guide_0 12 rfl rfl)
theorem dX0_guide_13 : decode cX0_guide 13 = .ok (.invokestatic 308, 3) := dk_184 1 52 (dk_at dksX0_guide_0 13 rfl rfl)
theorem dX0_guide_16 : decode cX0_guide 16 = .ok (.ifCond .eq 15, 3) := dk_153 0 15 (dk_at dksX0_guide_0 16 rfl rfl)
theorem dX0_guide_19 : decode cX0_guide 19 = .ok (.iload_n 3, 1) := dk_29 (dk_at dksX0_guide_0 19 rfl rfl)
theorem dX0_guide_20 : decode cX0_guide 20 = .ok (.i2l, 1) := dk_133 (dk_at dksX0_guide_0 20 rfl rfl)
theorem dX0_guide_21 : decode cX0_guide 21 = .ok (.lconst 0, 1) := dk_9 (dk_at dksX0_guide_0 21 rfl rfl)
theorem dX0_guide_22 : decode cX0_guide 22 = .ok (.ldc2_w 408, 3) := dk_20 1 152 (dk_at dksX0_guide_1 0 rfl rfl)
theorem dX0_guide_25 : decode cX0_guide 25 = .ok (.invokestatic 9, 3) := dk_184 0 9 (dk_at dksX0_guide_1 3 rfl rfl)
theorem dX0_guide_28 : decode cX0_guide 28 = .ok (.ifCond .ne 5, 3) := dk_154 0 5 (dk_at dksX0_guide_1 6 rfl rfl)
theorem dX0_guide_31 : decode cX0_guide 31 = .ok (.iconst (-1), 1) := dk_2 (dk_at dksX0_guide_1 9 rfl rfl)
theorem dX0_guide_32 : decode cX0_guide 32 = .ok (.ireturn, 1) := dk_172 (dk_at dksX0_guide_1 10 rfl rfl)
theorem dX0_guide_33 : decode cX0_guide 33 = .ok (.aload_n 0, 1) := dk_42 (dk_at dksX0_guide_1 11 rfl rfl)
theorem dX0_guide_34 : decode cX0_guide 34 = .ok (.getfield 405, 3) := dk_180 1 149 (dk_at dksX0_guide_1 12 rfl rfl)
theorem dX0_guide_37 : decode cX0_guide 37 = .ok (.bipush 8, 2) := dk_16 8 (dk_at dksX0_guide_1 15 rfl rfl)
theorem dX0_guide_39 : decode cX0_guide 39 = .ok (.if_icmp .ne 6, 3) := dk_160 0 6 (dk_at dksX0_guide_1 17 rfl rfl)
theorem dX0_guide_42 : decode cX0_guide 42 = .ok (.bipush (-3), 2) := dk_16 253 (dk_at dksX0_guide_1 20 rfl rfl)
theorem dX0_guide_44 : decode cX0_guide 44 = .ok (.ireturn, 1) := dk_172 (dk_at dksX0_guide_1 22 rfl rfl)
theorem dX0_guide_45 : decode cX0_guide 45 = .ok (.aload_n 0, 1) := dk_42 (dk_at dksX0_guide_1 23 rfl rfl)
theorem dX0_guide_46 : decode cX0_guide 46 = .ok (.getfield 176, 3) := dk_180 0 176 (dk_at dksX0_guide_2 0 rfl rfl)
theorem dX0_guide_49 : decode cX0_guide 49 = .ok (.aload_n 0, 1) := dk_42 (dk_at dksX0_guide_2 3 rfl rfl)
theorem dX0_guide_50 : decode cX0_guide 50 = .ok (.getfield 405, 3) := dk_180 1 149 (dk_at dksX0_guide_2 4 rfl rfl)
theorem dX0_guide_53 : decode cX0_guide 53 = .ok (.new 174, 3) := dk_187 0 174 (dk_at dksX0_guide_2 7 rfl rfl)
theorem dX0_guide_56 : decode cX0_guide 56 = .ok (.dup, 1) := dk_89 (dk_at dksX0_guide_2 10 rfl rfl)
theorem dX0_guide_57 : decode cX0_guide 57 = .ok (.aload_n 0, 1) := dk_42 (dk_at dksX0_guide_2 11 rfl rfl)
theorem dX0_guide_58 : decode cX0_guide 58 = .ok (.getfield 405, 3) := dk_180 1 149 (dk_at dksX0_guide_2 12 rfl rfl)
theorem dX0_guide_61 : decode cX0_guide 61 = .ok (.iload_n 1, 1) := dk_27 (dk_at dksX0_guide_2 15 rfl rfl)
theorem dX0_guide_62 : decode cX0_guide 62 = .ok (.iload_n 2, 1) := dk_28 (dk_at dksX0_guide_2 16 rfl rfl)
theorem dX0_guide_63 : decode cX0_guide 63 = .ok (.iload_n 3, 1) := dk_29 (dk_at dksX0_guide_2 17 rfl rfl)
theorem dX0_guide_64 : decode cX0_guide 64 = .ok (.invokespecial 410, 3) := dk_183 1 154 (dk_at dksX0_guide_2 18 rfl rfl)
theorem dX0_guide_67 : decode cX0_guide 67 = .ok (.aastore, 1) := dk_83 (dk_at dksX0_guide_2 21 rfl rfl)
theorem dX0_guide_68 : decode cX0_guide 68 = .ok (.aload_n 0, 1) := dk_42 (dk_at dksX0_guide_2 22 rfl rfl)
theorem dX0_guide_69 : decode cX0_guide 69 = .ok (.getfield 180, 3) := dk_180 0 180 (dk_at dksX0_guide_3 0 rfl rfl)
theorem dX0_guide_72 : decode cX0_guide 72 = .ok (.aload_n 0, 1) := dk_42 (dk_at dksX0_guide_3 3 rfl rfl)
theorem dX0_guide_73 : decode cX0_guide 73 = .ok (.getfield 176, 3) := dk_180 0 176 (dk_at dksX0_guide_3 4 rfl rfl)
theorem dX0_guide_76 : decode cX0_guide 76 = .ok (.aload_n 0, 1) := dk_42 (dk_at dksX0_guide_3 7 rfl rfl)
theorem dX0_guide_77 : decode cX0_guide 77 = .ok (.getfield 405, 3) := dk_180 1 149 (dk_at dksX0_guide_3 8 rfl rfl)
theorem dX0_guide_80 : decode cX0_guide 80 = .ok (.aaload, 1) := dk_50 (dk_at dksX0_guide_3 11 rfl rfl)
theorem dX0_guide_81 : decode cX0_guide 81 = .ok (.invokeinterface 98 2, 5) := by decide +kernel
theorem dX0_guide_86 : decode cX0_guide 86 = .ok (.pop, 1) := dk_87 (dk_at dksX0_guide_3 17 rfl rfl)
theorem dX0_guide_87 : decode cX0_guide 87 = .ok (.aload_n 0, 1) := dk_42 (dk_at dksX0_guide_3 18 rfl rfl)
theorem dX0_guide_88 : decode cX0_guide 88 = .ok (.dup, 1) := dk_89 (dk_at dksX0_guide_3 19 rfl rfl)
theorem dX0_guide_89 : decode cX0_guide 89 = .ok (.getfield 405, 3) := dk_180 1 149 (dk_at dksX0_guide_3 20 rfl rfl)
theorem dX0_guide_92 : decode cX0_guide 92 = .ok (.iconst 1, 1) := dk_4 (dk_at dksX0_guide_3 23 rfl rfl)
theorem dX0_guide_93 : decode cX0_guide 93 = .ok (.iadd, 1) := dk_96 (dk_at dksX0_guide_4 0 rfl rfl)
theorem dX0_guide_94 : decode cX0_guide 94 = .ok (.putfield 405, 3) := dk_181 1 149 (dk_at dksX0_guide_4 1 rfl rfl)
theorem dX0_guide_97 : decode cX0_guide 97 = .ok (.aload_n 0, 1) := dk_42 (dk_at dksX0_guide_4 4 rfl rfl)
theorem dX0_guide_98 : decode cX0_guide 98 = .ok (.getfield 405, 3) := dk_180 1 149 (dk_at dksX0_guide_4 5 rfl rfl)
theorem dX0_guide_101 : decode cX0_guide 101 = .ok (.iconst 1, 1) := dk_4 (dk_at dksX0_guide_4 8 rfl rfl)
theorem dX0_guide_102 : decode cX0_guide 102 = .ok (.isub, 1) := dk_100 (dk_at dksX0_guide_4 9 rfl rfl)
theorem dX0_guide_103 : decode cX0_guide 103 = .ok (.ireturn, 1) := dk_172 (dk_at dksX0_guide_4 10 rfl rfl)
abbrev cX0_papers : ByteArray := prog_1_method_50_code
def yX0_papers : MethodName := ⟨RX0, "papers", "(II)I"⟩
def dkwX0_papers_1 : List UInt8 := [180, 0, 176, 27, 50, 180, 1, 160, 62, 42, 180, 0, 176, 27, 50, 28, 181, 1, 160, 29, 172]
abbrev dktX0_papers_1 : List UInt8 := dkwX0_papers_1 ++ []
def dkwX0_papers_0 : List UInt8 := [42, 27, 182, 1, 157, 153, 0, 15, 28, 133, 9, 20, 1, 152, 184, 0, 9, 154, 0, 5, 2, 172, 42]
abbrev dktX0_papers_0 : List UInt8 := dkwX0_papers_0 ++ dktX0_papers_1
theorem dksX0_papers_0 : cX0_papers.data.toList.drop 0 = dktX0_papers_0 := by decide +kernel
theorem dksX0_papers_1 : cX0_papers.data.toList.drop 23 = dktX0_papers_1 := dk_seg dksX0_papers_0 23 rfl rfl
theorem dX0_papers_0 : decode cX0_papers 0 = .ok (.aload_n 0, 1) := dk_42 (dk_at dksX0_papers_0 0 rfl rfl)
theorem dX0_papers_1 : decode cX0_papers 1 = .ok (.iload_n 1, 1) := dk_27 (dk_at dksX0_papers_0 1 rfl rfl)
theorem dX0_papers_2 : decode cX0_papers 2 = .ok (.invokevirtual 413, 3) := dk_182 1 157 (dk_at dksX0_papers_0 2 rfl rfl)
theorem dX0_papers_5 : decode cX0_papers 5 = .ok (.ifCond .eq 15, 3) := dk_153 0 15 (dk_at dksX0_papers_0 5 rfl rfl)
theorem dX0_papers_8 : decode cX0_papers 8 = .ok (.iload_n 2, 1) := dk_28 (dk_at dksX0_papers_0 8 rfl rfl)
theorem dX0_papers_9 : decode cX0_papers 9 = .ok (.i2l, 1) := dk_133 (dk_at dksX0_papers_0 9 rfl rfl)
theorem dX0_papers_10 : decode cX0_papers 10 = .ok (.lconst 0, 1) := dk_9 (dk_at dksX0_papers_0 10 rfl rfl)
theorem dX0_papers_11 : decode cX0_papers 11 = .ok (.ldc2_w 408, 3) := dk_20 1 152 (dk_at dksX0_papers_0 11 rfl rfl)
theorem dX0_papers_14 : decode cX0_papers 14 = .ok (.invokestatic 9, 3) := dk_184 0 9 (dk_at dksX0_papers_0 14 rfl rfl)
theorem dX0_papers_17 : decode cX0_papers 17 = .ok (.ifCond .ne 5, 3) := dk_154 0 5 (dk_at dksX0_papers_0 17 rfl rfl)
theorem dX0_papers_20 : decode cX0_papers 20 = .ok (.iconst (-1), 1) := dk_2 (dk_at dksX0_papers_0 20 rfl rfl)
theorem dX0_papers_21 : decode cX0_papers 21 = .ok (.ireturn, 1) := dk_172 (dk_at dksX0_papers_0 21 rfl rfl)
theorem dX0_papers_22 : decode cX0_papers 22 = .ok (.aload_n 0, 1) := dk_42 (dk_at dksX0_papers_0 22 rfl rfl)
theorem dX0_papers_23 : decode cX0_papers 23 = .ok (.getfield 176, 3) := dk_180 0 176 (dk_at dksX0_papers_1 0 rfl rfl)
theorem dX0_papers_26 : decode cX0_papers 26 = .ok (.iload_n 1, 1) := dk_27 (dk_at dksX0_papers_1 3 rfl rfl)
theorem dX0_papers_27 : decode cX0_papers 27 = .ok (.aaload, 1) := dk_50 (dk_at dksX0_papers_1 4 rfl rfl)
theorem dX0_papers_28 : decode cX0_papers 28 = .ok (.getfield 416, 3) := dk_180 1 160 (dk_at dksX0_papers_1 5 rfl rfl)
theorem dX0_papers_31 : decode cX0_papers 31 = .ok (.istore_n 3, 1) := dk_62 (dk_at dksX0_papers_1 8 rfl rfl)
theorem dX0_papers_32 : decode cX0_papers 32 = .ok (.aload_n 0, 1) := dk_42 (dk_at dksX0_papers_1 9 rfl rfl)
theorem dX0_papers_33 : decode cX0_papers 33 = .ok (.getfield 176, 3) := dk_180 0 176 (dk_at dksX0_papers_1 10 rfl rfl)
theorem dX0_papers_36 : decode cX0_papers 36 = .ok (.iload_n 1, 1) := dk_27 (dk_at dksX0_papers_1 13 rfl rfl)
theorem dX0_papers_37 : decode cX0_papers 37 = .ok (.aaload, 1) := dk_50 (dk_at dksX0_papers_1 14 rfl rfl)
theorem dX0_papers_38 : decode cX0_papers 38 = .ok (.iload_n 2, 1) := dk_28 (dk_at dksX0_papers_1 15 rfl rfl)
theorem dX0_papers_39 : decode cX0_papers 39 = .ok (.putfield 416, 3) := dk_181 1 160 (dk_at dksX0_papers_1 16 rfl rfl)
theorem dX0_papers_42 : decode cX0_papers 42 = .ok (.iload_n 3, 1) := dk_29 (dk_at dksX0_papers_1 19 rfl rfl)
theorem dX0_papers_43 : decode cX0_papers 43 = .ok (.ireturn, 1) := dk_172 (dk_at dksX0_papers_1 20 rfl rfl)
abbrev cX0_isGuide : ByteArray := prog_1_method_48_code
def yX0_isGuide : MethodName := ⟨RX0, "isGuide", "(I)Z"⟩
def dkwX0_isGuide_0 : List UInt8 := [27, 133, 9, 42, 180, 1, 149, 4, 100, 133, 184, 0, 9, 172]
abbrev dktX0_isGuide_0 : List UInt8 := dkwX0_isGuide_0 ++ []
theorem dksX0_isGuide_0 : cX0_isGuide.data.toList.drop 0 = dktX0_isGuide_0 := by decide +kernel
theorem dX0_isGuide_0 : decode cX0_isGuide 0 = .ok (.iload_n 1, 1) := dk_27 (dk_at dksX0_isGuide_0 0 rfl rfl)
theorem dX0_isGuide_1 : decode cX0_isGuide 1 = .ok (.i2l, 1) := dk_133 (dk_at dksX0_isGuide_0 1 rfl rfl)
theorem dX0_isGuide_2 : decode cX0_isGuide 2 = .ok (.lconst 0, 1) := dk_9 (dk_at dksX0_isGuide_0 2 rfl rfl)
theorem dX0_isGuide_3 : decode cX0_isGuide 3 = .ok (.aload_n 0, 1) := dk_42 (dk_at dksX0_isGuide_0 3 rfl rfl)
theorem dX0_isGuide_4 : decode cX0_isGuide 4 = .ok (.getfield 405, 3) := dk_180 1 149 (dk_at dksX0_isGuide_0 4 rfl rfl)
theorem dX0_isGuide_7 : decode cX0_isGuide 7 = .ok (.iconst 1, 1) := dk_4 (dk_at dksX0_isGuide_0 7 rfl rfl)
theorem dX0_isGuide_8 : decode cX0_isGuide 8 = .ok (.isub, 1) := dk_100 (dk_at dksX0_isGuide_0 8 rfl rfl)
theorem dX0_isGuide_9 : decode cX0_isGuide 9 = .ok (.i2l, 1) := dk_133 (dk_at dksX0_isGuide_0 9 rfl rfl)
theorem dX0_isGuide_10 : decode cX0_isGuide 10 = .ok (.invokestatic 9, 3) := dk_184 0 9 (dk_at dksX0_isGuide_0 10 rfl rfl)
theorem dX0_isGuide_13 : decode cX0_isGuide 13 = .ok (.ireturn, 1) := dk_172 (dk_at dksX0_isGuide_0 13 rfl rfl)
abbrev cX0_told : ByteArray := prog_1_method_51_code
def yX0_told : MethodName := ⟨RX0, "told", "(II)I"⟩
def dkwX0_told_4 : List UInt8 := [45, 180, 1, 179, 172, 2, 172]
abbrev dktX0_told_4 : List UInt8 := dkwX0_told_4 ++ []
def dkwX0_told_3 : List UInt8 := [185, 1, 169, 2, 0, 172, 45, 180, 1, 173, 153, 0, 7, 4, 167, 0, 4, 3, 172, 45, 180, 1, 176, 172]
abbrev dktX0_told_3 : List UInt8 := dkwX0_told_3 ++ dktX0_told_4
def dkwX0_told_2 : List UInt8 := [45, 180, 1, 163, 172, 45, 180, 1, 166, 172, 45, 180, 1, 160, 172, 42, 180, 0, 180, 45]
abbrev dktX0_told_2 : List UInt8 := dkwX0_told_2 ++ dktX0_told_3
def dkwX0_told_1 : List UInt8 := [170, 0, 0, 0, 0, 91, 0, 0, 0, 0, 0, 0, 0, 6, 0, 0, 0, 42, 0, 0, 0, 47, 0, 0, 0, 52, 0, 0, 0, 57, 0, 0, 0, 68, 0, 0, 0, 81, 0, 0, 0, 86]
abbrev dktX0_told_1 : List UInt8 := dkwX0_told_1 ++ dktX0_told_2
def dkwX0_told_0 : List UInt8 := [42, 27, 182, 1, 157, 154, 0, 5, 2, 172, 42, 180, 0, 176, 27, 50, 78, 28]
abbrev dktX0_told_0 : List UInt8 := dkwX0_told_0 ++ dktX0_told_1
theorem dksX0_told_0 : cX0_told.data.toList.drop 0 = dktX0_told_0 := by decide +kernel
theorem dksX0_told_1 : cX0_told.data.toList.drop 18 = dktX0_told_1 := dk_seg dksX0_told_0 18 rfl rfl
theorem dksX0_told_2 : cX0_told.data.toList.drop 60 = dktX0_told_2 := dk_seg dksX0_told_1 42 rfl rfl
theorem dksX0_told_3 : cX0_told.data.toList.drop 80 = dktX0_told_3 := dk_seg dksX0_told_2 20 rfl rfl
theorem dksX0_told_4 : cX0_told.data.toList.drop 104 = dktX0_told_4 := dk_seg dksX0_told_3 24 rfl rfl
theorem dX0_told_0 : decode cX0_told 0 = .ok (.aload_n 0, 1) := dk_42 (dk_at dksX0_told_0 0 rfl rfl)
theorem dX0_told_1 : decode cX0_told 1 = .ok (.iload_n 1, 1) := dk_27 (dk_at dksX0_told_0 1 rfl rfl)
theorem dX0_told_2 : decode cX0_told 2 = .ok (.invokevirtual 413, 3) := dk_182 1 157 (dk_at dksX0_told_0 2 rfl rfl)
theorem dX0_told_5 : decode cX0_told 5 = .ok (.ifCond .ne 5, 3) := dk_154 0 5 (dk_at dksX0_told_0 5 rfl rfl)
theorem dX0_told_8 : decode cX0_told 8 = .ok (.iconst (-1), 1) := dk_2 (dk_at dksX0_told_0 8 rfl rfl)
theorem dX0_told_9 : decode cX0_told 9 = .ok (.ireturn, 1) := dk_172 (dk_at dksX0_told_0 9 rfl rfl)
theorem dX0_told_10 : decode cX0_told 10 = .ok (.aload_n 0, 1) := dk_42 (dk_at dksX0_told_0 10 rfl rfl)
theorem dX0_told_11 : decode cX0_told 11 = .ok (.getfield 176, 3) := dk_180 0 176 (dk_at dksX0_told_0 11 rfl rfl)
theorem dX0_told_14 : decode cX0_told 14 = .ok (.iload_n 1, 1) := dk_27 (dk_at dksX0_told_0 14 rfl rfl)
theorem dX0_told_15 : decode cX0_told 15 = .ok (.aaload, 1) := dk_50 (dk_at dksX0_told_0 15 rfl rfl)
theorem dX0_told_16 : decode cX0_told 16 = .ok (.astore_n 3, 1) := dk_78 (dk_at dksX0_told_0 16 rfl rfl)
theorem dX0_told_17 : decode cX0_told 17 = .ok (.iload_n 2, 1) := dk_28 (dk_at dksX0_told_0 17 rfl rfl)
theorem dX0_told_18 : decode cX0_told 18 = .ok (.tableswitch 91 0 6 #[42, 47, 52, 57, 68, 81, 86], 42) := by decide +kernel
theorem dX0_told_60 : decode cX0_told 60 = .ok (.aload_n 3, 1) := dk_45 (dk_at dksX0_told_2 0 rfl rfl)
theorem dX0_told_61 : decode cX0_told 61 = .ok (.getfield 419, 3) := dk_180 1 163 (dk_at dksX0_told_2 1 rfl rfl)
theorem dX0_told_64 : decode cX0_told 64 = .ok (.ireturn, 1) := dk_172 (dk_at dksX0_told_2 4 rfl rfl)
theorem dX0_told_65 : decode cX0_told 65 = .ok (.aload_n 3, 1) := dk_45 (dk_at dksX0_told_2 5 rfl rfl)
theorem dX0_told_66 : decode cX0_told 66 = .ok (.getfield 422, 3) := dk_180 1 166 (dk_at dksX0_told_2 6 rfl rfl)
theorem dX0_told_69 : decode cX0_told 69 = .ok (.ireturn, 1) := dk_172 (dk_at dksX0_told_2 9 rfl rfl)
theorem dX0_told_70 : decode cX0_told 70 = .ok (.aload_n 3, 1) := dk_45 (dk_at dksX0_told_2 10 rfl rfl)
theorem dX0_told_71 : decode cX0_told 71 = .ok (.getfield 416, 3) := dk_180 1 160 (dk_at dksX0_told_2 11 rfl rfl)
theorem dX0_told_74 : decode cX0_told 74 = .ok (.ireturn, 1) := dk_172 (dk_at dksX0_told_2 14 rfl rfl)
theorem dX0_told_75 : decode cX0_told 75 = .ok (.aload_n 0, 1) := dk_42 (dk_at dksX0_told_2 15 rfl rfl)
theorem dX0_told_76 : decode cX0_told 76 = .ok (.getfield 180, 3) := dk_180 0 180 (dk_at dksX0_told_2 16 rfl rfl)
theorem dX0_told_79 : decode cX0_told 79 = .ok (.aload_n 3, 1) := dk_45 (dk_at dksX0_told_2 19 rfl rfl)
theorem dX0_told_80 : decode cX0_told 80 = .ok (.invokeinterface 425 2, 5) := by decide +kernel
theorem dX0_told_85 : decode cX0_told 85 = .ok (.ireturn, 1) := dk_172 (dk_at dksX0_told_3 5 rfl rfl)
theorem dX0_told_86 : decode cX0_told 86 = .ok (.aload_n 3, 1) := dk_45 (dk_at dksX0_told_3 6 rfl rfl)
theorem dX0_told_87 : decode cX0_told 87 = .ok (.getfield 429, 3) := dk_180 1 173 (dk_at dksX0_told_3 7 rfl rfl)
theorem dX0_told_90 : decode cX0_told 90 = .ok (.ifCond .eq 7, 3) := dk_153 0 7 (dk_at dksX0_told_3 10 rfl rfl)
theorem dX0_told_93 : decode cX0_told 93 = .ok (.iconst 1, 1) := dk_4 (dk_at dksX0_told_3 13 rfl rfl)
theorem dX0_told_94 : decode cX0_told 94 = .ok (.goto 4, 3) := dk_167 0 4 (dk_at dksX0_told_3 14 rfl rfl)
theorem dX0_told_97 : decode cX0_told 97 = .ok (.iconst 0, 1) := dk_3 (dk_at dksX0_told_3 17 rfl rfl)
theorem dX0_told_98 : decode cX0_told 98 = .ok (.ireturn, 1) := dk_172 (dk_at dksX0_told_3 18 rfl rfl)
theorem dX0_told_99 : decode cX0_told 99 = .ok (.aload_n 3, 1) := dk_45 (dk_at dksX0_told_3 19 rfl rfl)
theorem dX0_told_100 : decode cX0_told 100 = .ok (.getfield 432, 3) := dk_180 1 176 (dk_at dksX0_told_3 20 rfl rfl)
theorem dX0_told_103 : decode cX0_told 103 = .ok (.ireturn, 1) := dk_172 (dk_at dksX0_told_3 23 rfl rfl)
theorem dX0_told_104 : decode cX0_told 104 = .ok (.aload_n 3, 1) := dk_45 (dk_at dksX0_told_4 0 rfl rfl)
theorem dX0_told_105 : decode cX0_told 105 = .ok (.getfield 435, 3) := dk_180 1 179 (dk_at dksX0_told_4 1 rfl rfl)
theorem dX0_told_108 : decode cX0_told 108 = .ok (.ireturn, 1) := dk_172 (dk_at dksX0_told_4 4 rfl rfl)
theorem dX0_told_109 : decode cX0_told 109 = .ok (.iconst (-1), 1) := dk_2 (dk_at dksX0_told_4 5 rfl rfl)
theorem dX0_told_110 : decode cX0_told 110 = .ok (.ireturn, 1) := dk_172 (dk_at dksX0_told_4 6 rfl rfl)
abbrev cX0_list : ByteArray := prog_1_method_52_code
def yX0_list : MethodName := ⟨RX0, "list", "(I)I"⟩
def dkwX0_list_1 : List UInt8 := [185, 0, 125, 2, 0, 192, 0, 174, 180, 1, 182, 167, 0, 4, 2, 172]
abbrev dktX0_list_1 : List UInt8 := dkwX0_list_1 ++ []
def dkwX0_list_0 : List UInt8 := [27, 133, 9, 42, 180, 1, 149, 4, 100, 133, 184, 0, 9, 153, 0, 22, 42, 180, 0, 180, 27]
abbrev dktX0_list_0 : List UInt8 := dkwX0_list_0 ++ dktX0_list_1
theorem dksX0_list_0 : cX0_list.data.toList.drop 0 = dktX0_list_0 := by decide +kernel
theorem dksX0_list_1 : cX0_list.data.toList.drop 21 = dktX0_list_1 := dk_seg dksX0_list_0 21 rfl rfl
theorem dX0_list_0 : decode cX0_list 0 = .ok (.iload_n 1, 1) := dk_27 (dk_at dksX0_list_0 0 rfl rfl)
theorem dX0_list_1 : decode cX0_list 1 = .ok (.i2l, 1) := dk_133 (dk_at dksX0_list_0 1 rfl rfl)
theorem dX0_list_2 : decode cX0_list 2 = .ok (.lconst 0, 1) := dk_9 (dk_at dksX0_list_0 2 rfl rfl)
theorem dX0_list_3 : decode cX0_list 3 = .ok (.aload_n 0, 1) := dk_42 (dk_at dksX0_list_0 3 rfl rfl)
theorem dX0_list_4 : decode cX0_list 4 = .ok (.getfield 405, 3) := dk_180 1 149 (dk_at dksX0_list_0 4 rfl rfl)
theorem dX0_list_7 : decode cX0_list 7 = .ok (.iconst 1, 1) := dk_4 (dk_at dksX0_list_0 7 rfl rfl)
theorem dX0_list_8 : decode cX0_list 8 = .ok (.isub, 1) := dk_100 (dk_at dksX0_list_0 8 rfl rfl)
theorem dX0_list_9 : decode cX0_list 9 = .ok (.i2l, 1) := dk_133 (dk_at dksX0_list_0 9 rfl rfl)
theorem dX0_list_10 : decode cX0_list 10 = .ok (.invokestatic 9, 3) := dk_184 0 9 (dk_at dksX0_list_0 10 rfl rfl)
theorem dX0_list_13 : decode cX0_list 13 = .ok (.ifCond .eq 22, 3) := dk_153 0 22 (dk_at dksX0_list_0 13 rfl rfl)
theorem dX0_list_16 : decode cX0_list 16 = .ok (.aload_n 0, 1) := dk_42 (dk_at dksX0_list_0 16 rfl rfl)
theorem dX0_list_17 : decode cX0_list 17 = .ok (.getfield 180, 3) := dk_180 0 180 (dk_at dksX0_list_0 17 rfl rfl)
theorem dX0_list_20 : decode cX0_list 20 = .ok (.iload_n 1, 1) := dk_27 (dk_at dksX0_list_0 20 rfl rfl)
theorem dX0_list_21 : decode cX0_list 21 = .ok (.invokeinterface 125 2, 5) := by decide +kernel
theorem dX0_list_26 : decode cX0_list 26 = .ok (.checkcast 174, 3) := dk_192 0 174 (dk_at dksX0_list_1 5 rfl rfl)
theorem dX0_list_29 : decode cX0_list 29 = .ok (.getfield 438, 3) := dk_180 1 182 (dk_at dksX0_list_1 8 rfl rfl)
theorem dX0_list_32 : decode cX0_list 32 = .ok (.goto 4, 3) := dk_167 0 4 (dk_at dksX0_list_1 11 rfl rfl)
theorem dX0_list_35 : decode cX0_list 35 = .ok (.iconst (-1), 1) := dk_2 (dk_at dksX0_list_1 14 rfl rfl)
theorem dX0_list_36 : decode cX0_list 36 = .ok (.ireturn, 1) := dk_172 (dk_at dksX0_list_1 15 rfl rfl)
abbrev cX0_day : ByteArray := prog_1_method_53_code
def yX0_day : MethodName := ⟨RX0, "day", "(I)I"⟩
def dkwX0_day_2 : List UInt8 := [132, 3, 1, 167, 255, 235, 28, 172]
abbrev dktX0_day_2 : List UInt8 := dkwX0_day_2 ++ []
def dkwX0_day_1 : List UInt8 := [27, 181, 1, 111, 3, 62, 29, 42, 180, 1, 149, 162, 0, 19, 42, 180, 0, 176, 29, 50, 3, 181, 1, 173]
abbrev dktX0_day_1 : List UInt8 := dkwX0_day_1 ++ dktX0_day_2
def dkwX0_day_0 : List UInt8 := [27, 133, 42, 180, 1, 111, 133, 20, 1, 152, 184, 0, 9, 154, 0, 5, 2, 172, 42, 180, 1, 111, 61, 42]
abbrev dktX0_day_0 : List UInt8 := dkwX0_day_0 ++ dktX0_day_1
theorem dksX0_day_0 : cX0_day.data.toList.drop 0 = dktX0_day_0 := by decide +kernel
theorem dksX0_day_1 : cX0_day.data.toList.drop 24 = dktX0_day_1 := dk_seg dksX0_day_0 24 rfl rfl
theorem dksX0_day_2 : cX0_day.data.toList.drop 48 = dktX0_day_2 := dk_seg dksX0_day_1 24 rfl rfl
theorem dX0_day_0 : decode cX0_day 0 = .ok (.iload_n 1, 1) := dk_27 (dk_at dksX0_day_0 0 rfl rfl)
theorem dX0_day_1 : decode cX0_day 1 = .ok (.i2l, 1) := dk_133 (dk_at dksX0_day_0 1 rfl rfl)
theorem dX0_day_2 : decode cX0_day 2 = .ok (.aload_n 0, 1) := dk_42 (dk_at dksX0_day_0 2 rfl rfl)
theorem dX0_day_3 : decode cX0_day 3 = .ok (.getfield 367, 3) := dk_180 1 111 (dk_at dksX0_day_0 3 rfl rfl)
theorem dX0_day_6 : decode cX0_day 6 = .ok (.i2l, 1) := dk_133 (dk_at dksX0_day_0 6 rfl rfl)
theorem dX0_day_7 : decode cX0_day 7 = .ok (.ldc2_w 408, 3) := dk_20 1 152 (dk_at dksX0_day_0 7 rfl rfl)
theorem dX0_day_10 : decode cX0_day 10 = .ok (.invokestatic 9, 3) := dk_184 0 9 (dk_at dksX0_day_0 10 rfl rfl)
theorem dX0_day_13 : decode cX0_day 13 = .ok (.ifCond .ne 5, 3) := dk_154 0 5 (dk_at dksX0_day_0 13 rfl rfl)
theorem dX0_day_16 : decode cX0_day 16 = .ok (.iconst (-1), 1) := dk_2 (dk_at dksX0_day_0 16 rfl rfl)
theorem dX0_day_17 : decode cX0_day 17 = .ok (.ireturn, 1) := dk_172 (dk_at dksX0_day_0 17 rfl rfl)
theorem dX0_day_18 : decode cX0_day 18 = .ok (.aload_n 0, 1) := dk_42 (dk_at dksX0_day_0 18 rfl rfl)
theorem dX0_day_19 : decode cX0_day 19 = .ok (.getfield 367, 3) := dk_180 1 111 (dk_at dksX0_day_0 19 rfl rfl)
theorem dX0_day_22 : decode cX0_day 22 = .ok (.istore_n 2, 1) := dk_61 (dk_at dksX0_day_0 22 rfl rfl)
theorem dX0_day_23 : decode cX0_day 23 = .ok (.aload_n 0, 1) := dk_42 (dk_at dksX0_day_0 23 rfl rfl)
theorem dX0_day_24 : decode cX0_day 24 = .ok (.iload_n 1, 1) := dk_27 (dk_at dksX0_day_1 0 rfl rfl)
theorem dX0_day_25 : decode cX0_day 25 = .ok (.putfield 367, 3) := dk_181 1 111 (dk_at dksX0_day_1 1 rfl rfl)
theorem dX0_day_28 : decode cX0_day 28 = .ok (.iconst 0, 1) := dk_3 (dk_at dksX0_day_1 4 rfl rfl)
theorem dX0_day_29 : decode cX0_day 29 = .ok (.istore_n 3, 1) := dk_62 (dk_at dksX0_day_1 5 rfl rfl)
theorem dX0_day_30 : decode cX0_day 30 = .ok (.iload_n 3, 1) := dk_29 (dk_at dksX0_day_1 6 rfl rfl)
theorem dX0_day_31 : decode cX0_day 31 = .ok (.aload_n 0, 1) := dk_42 (dk_at dksX0_day_1 7 rfl rfl)
theorem dX0_day_32 : decode cX0_day 32 = .ok (.getfield 405, 3) := dk_180 1 149 (dk_at dksX0_day_1 8 rfl rfl)
theorem dX0_day_35 : decode cX0_day 35 = .ok (.if_icmp .ge 19, 3) := dk_162 0 19 (dk_at dksX0_day_1 11 rfl rfl)
theorem dX0_day_38 : decode cX0_day 38 = .ok (.aload_n 0, 1) := dk_42 (dk_at dksX0_day_1 14 rfl rfl)
theorem dX0_day_39 : decode cX0_day 39 = .ok (.getfield 176, 3) := dk_180 0 176 (dk_at dksX0_day_1 15 rfl rfl)
theorem dX0_day_42 : decode cX0_day 42 = .ok (.iload_n 3, 1) := dk_29 (dk_at dksX0_day_1 18 rfl rfl)
theorem dX0_day_43 : decode cX0_day 43 = .ok (.aaload, 1) := dk_50 (dk_at dksX0_day_1 19 rfl rfl)
theorem dX0_day_44 : decode cX0_day 44 = .ok (.iconst 0, 1) := dk_3 (dk_at dksX0_day_1 20 rfl rfl)
theorem dX0_day_45 : decode cX0_day 45 = .ok (.putfield 429, 3) := dk_181 1 173 (dk_at dksX0_day_1 21 rfl rfl)
theorem dX0_day_48 : decode cX0_day 48 = .ok (.iinc 3 1, 3) := dk_132 3 1 (dk_at dksX0_day_2 0 rfl rfl)
theorem dX0_day_51 : decode cX0_day 51 = .ok (.goto (-21), 3) := dk_167 255 235 (dk_at dksX0_day_2 3 rfl rfl)
theorem dX0_day_54 : decode cX0_day 54 = .ok (.iload_n 2, 1) := dk_28 (dk_at dksX0_day_2 6 rfl rfl)
theorem dX0_day_55 : decode cX0_day 55 = .ok (.ireturn, 1) := dk_172 (dk_at dksX0_day_2 7 rfl rfl)
abbrev cX0_turn : ByteArray := prog_1_method_55_code
def yX0_turn : MethodName := ⟨RX0, "turn", "(IIII)I"⟩
def dkwX0_turn_3 : List UInt8 := [180, 1, 182, 172]
abbrev dktX0_turn_3 : List UInt8 := dkwX0_turn_3 ++ []
def dkwX0_turn_2 : List UInt8 := [161, 0, 10, 21, 4, 21, 5, 161, 0, 8, 16, 252, 167, 0, 13, 42, 180, 0, 183, 21, 4, 50]
abbrev dktX0_turn_2 : List UInt8 := dkwX0_turn_2 ++ dktX0_turn_3
def dkwX0_turn_1 : List UInt8 := [42, 182, 1, 146, 54, 5, 42, 3, 182, 1, 140, 16, 252, 160, 0, 21, 42, 21, 5, 182, 1, 185, 21, 5]
abbrev dktX0_turn_1 : List UInt8 := dkwX0_turn_1 ++ dktX0_turn_2
def dkwX0_turn_0 : List UInt8 := [42, 27, 28, 29, 182, 1, 133, 153, 0, 8, 21, 4, 156, 0, 5, 2, 172, 42, 27, 28, 29, 182, 1, 137]
abbrev dktX0_turn_0 : List UInt8 := dkwX0_turn_0 ++ dktX0_turn_1
theorem dksX0_turn_0 : cX0_turn.data.toList.drop 0 = dktX0_turn_0 := by decide +kernel
theorem dksX0_turn_1 : cX0_turn.data.toList.drop 24 = dktX0_turn_1 := dk_seg dksX0_turn_0 24 rfl rfl
theorem dksX0_turn_2 : cX0_turn.data.toList.drop 48 = dktX0_turn_2 := dk_seg dksX0_turn_1 24 rfl rfl
theorem dksX0_turn_3 : cX0_turn.data.toList.drop 70 = dktX0_turn_3 := dk_seg dksX0_turn_2 22 rfl rfl
theorem dX0_turn_0 : decode cX0_turn 0 = .ok (.aload_n 0, 1) := dk_42 (dk_at dksX0_turn_0 0 rfl rfl)
theorem dX0_turn_1 : decode cX0_turn 1 = .ok (.iload_n 1, 1) := dk_27 (dk_at dksX0_turn_0 1 rfl rfl)
theorem dX0_turn_2 : decode cX0_turn 2 = .ok (.iload_n 2, 1) := dk_28 (dk_at dksX0_turn_0 2 rfl rfl)
theorem dX0_turn_3 : decode cX0_turn 3 = .ok (.iload_n 3, 1) := dk_29 (dk_at dksX0_turn_0 3 rfl rfl)
theorem dX0_turn_4 : decode cX0_turn 4 = .ok (.invokevirtual 389, 3) := dk_182 1 133 (dk_at dksX0_turn_0 4 rfl rfl)
theorem dX0_turn_7 : decode cX0_turn 7 = .ok (.ifCond .eq 8, 3) := dk_153 0 8 (dk_at dksX0_turn_0 7 rfl rfl)
theorem dX0_turn_10 : decode cX0_turn 10 = .ok (.iload 4, 2) := dk_21 4 (dk_at dksX0_turn_0 10 rfl rfl)
theorem dX0_turn_12 : decode cX0_turn 12 = .ok (.ifCond .ge 5, 3) := dk_156 0 5 (dk_at dksX0_turn_0 12 rfl rfl)
theorem dX0_turn_15 : decode cX0_turn 15 = .ok (.iconst (-1), 1) := dk_2 (dk_at dksX0_turn_0 15 rfl rfl)
theorem dX0_turn_16 : decode cX0_turn 16 = .ok (.ireturn, 1) := dk_172 (dk_at dksX0_turn_0 16 rfl rfl)
theorem dX0_turn_17 : decode cX0_turn 17 = .ok (.aload_n 0, 1) := dk_42 (dk_at dksX0_turn_0 17 rfl rfl)
theorem dX0_turn_18 : decode cX0_turn 18 = .ok (.iload_n 1, 1) := dk_27 (dk_at dksX0_turn_0 18 rfl rfl)
theorem dX0_turn_19 : decode cX0_turn 19 = .ok (.iload_n 2, 1) := dk_28 (dk_at dksX0_turn_0 19 rfl rfl)
theorem dX0_turn_20 : decode cX0_turn 20 = .ok (.iload_n 3, 1) := dk_29 (dk_at dksX0_turn_0 20 rfl rfl)
theorem dX0_turn_21 : decode cX0_turn 21 = .ok (.invokevirtual 393, 3) := dk_182 1 137 (dk_at dksX0_turn_0 21 rfl rfl)
theorem dX0_turn_24 : decode cX0_turn 24 = .ok (.aload_n 0, 1) := dk_42 (dk_at dksX0_turn_1 0 rfl rfl)
theorem dX0_turn_25 : decode cX0_turn 25 = .ok (.invokevirtual 402, 3) := dk_182 1 146 (dk_at dksX0_turn_1 1 rfl rfl)
theorem dX0_turn_28 : decode cX0_turn 28 = .ok (.istore 5, 2) := dk_54 5 (dk_at dksX0_turn_1 4 rfl rfl)
theorem dX0_turn_30 : decode cX0_turn 30 = .ok (.aload_n 0, 1) := dk_42 (dk_at dksX0_turn_1 6 rfl rfl)
theorem dX0_turn_31 : decode cX0_turn 31 = .ok (.iconst 0, 1) := dk_3 (dk_at dksX0_turn_1 7 rfl rfl)
theorem dX0_turn_32 : decode cX0_turn 32 = .ok (.invokevirtual 396, 3) := dk_182 1 140 (dk_at dksX0_turn_1 8 rfl rfl)
theorem dX0_turn_35 : decode cX0_turn 35 = .ok (.bipush (-4), 2) := dk_16 252 (dk_at dksX0_turn_1 11 rfl rfl)
theorem dX0_turn_37 : decode cX0_turn 37 = .ok (.if_icmp .ne 21, 3) := dk_160 0 21 (dk_at dksX0_turn_1 13 rfl rfl)
theorem dX0_turn_40 : decode cX0_turn 40 = .ok (.aload_n 0, 1) := dk_42 (dk_at dksX0_turn_1 16 rfl rfl)
theorem dX0_turn_41 : decode cX0_turn 41 = .ok (.iload 5, 2) := dk_21 5 (dk_at dksX0_turn_1 17 rfl rfl)
theorem dX0_turn_43 : decode cX0_turn 43 = .ok (.invokevirtual 441, 3) := dk_182 1 185 (dk_at dksX0_turn_1 19 rfl rfl)
theorem dX0_turn_46 : decode cX0_turn 46 = .ok (.iload 5, 2) := dk_21 5 (dk_at dksX0_turn_1 22 rfl rfl)
theorem dX0_turn_48 : decode cX0_turn 48 = .ok (.if_icmp .lt 10, 3) := dk_161 0 10 (dk_at dksX0_turn_2 0 rfl rfl)
theorem dX0_turn_51 : decode cX0_turn 51 = .ok (.iload 4, 2) := dk_21 4 (dk_at dksX0_turn_2 3 rfl rfl)
theorem dX0_turn_53 : decode cX0_turn 53 = .ok (.iload 5, 2) := dk_21 5 (dk_at dksX0_turn_2 5 rfl rfl)
theorem dX0_turn_55 : decode cX0_turn 55 = .ok (.if_icmp .lt 8, 3) := dk_161 0 8 (dk_at dksX0_turn_2 7 rfl rfl)
theorem dX0_turn_58 : decode cX0_turn 58 = .ok (.bipush (-4), 2) := dk_16 252 (dk_at dksX0_turn_2 10 rfl rfl)
theorem dX0_turn_60 : decode cX0_turn 60 = .ok (.goto 13, 3) := dk_167 0 13 (dk_at dksX0_turn_2 12 rfl rfl)
theorem dX0_turn_63 : decode cX0_turn 63 = .ok (.aload_n 0, 1) := dk_42 (dk_at dksX0_turn_2 15 rfl rfl)
theorem dX0_turn_64 : decode cX0_turn 64 = .ok (.getfield 183, 3) := dk_180 0 183 (dk_at dksX0_turn_2 16 rfl rfl)
theorem dX0_turn_67 : decode cX0_turn 67 = .ok (.iload 4, 2) := dk_21 4 (dk_at dksX0_turn_2 19 rfl rfl)
theorem dX0_turn_69 : decode cX0_turn 69 = .ok (.aaload, 1) := dk_50 (dk_at dksX0_turn_2 21 rfl rfl)
theorem dX0_turn_70 : decode cX0_turn 70 = .ok (.getfield 438, 3) := dk_180 1 182 (dk_at dksX0_turn_3 0 rfl rfl)
theorem dX0_turn_73 : decode cX0_turn 73 = .ok (.ireturn, 1) := dk_172 (dk_at dksX0_turn_3 3 rfl rfl)
abbrev cX0_take : ByteArray := prog_1_method_54_code
def yX0_take : MethodName := ⟨RX0, "take", "(I)I"⟩
def dkwX0_take_3 : List UInt8 := [28, 25, 4, 83, 132, 2, 1, 132, 3, 1, 167, 255, 180, 28, 172]
abbrev dktX0_take_3 : List UInt8 := dkwX0_take_3 ++ []
def dkwX0_take_2 : List UInt8 := [180, 1, 111, 161, 0, 28, 25, 4, 180, 1, 163, 42, 180, 0, 171, 7, 46, 161, 0, 14, 42, 180, 0, 183]
abbrev dktX0_take_2 : List UInt8 := dkwX0_take_2 ++ dktX0_take_3
def dkwX0_take_1 : List UInt8 := [192, 0, 174, 58, 4, 28, 27, 162, 0, 48, 25, 4, 180, 1, 173, 154, 0, 40, 25, 4, 180, 1, 160, 42]
abbrev dktX0_take_1 : List UInt8 := dkwX0_take_1 ++ dktX0_take_2
def dkwX0_take_0 : List UInt8 := [3, 61, 3, 62, 29, 42, 180, 1, 149, 162, 0, 74, 42, 180, 0, 180, 29, 185, 0, 125, 2, 0]
abbrev dktX0_take_0 : List UInt8 := dkwX0_take_0 ++ dktX0_take_1
theorem dksX0_take_0 : cX0_take.data.toList.drop 0 = dktX0_take_0 := by decide +kernel
theorem dksX0_take_1 : cX0_take.data.toList.drop 22 = dktX0_take_1 := dk_seg dksX0_take_0 22 rfl rfl
theorem dksX0_take_2 : cX0_take.data.toList.drop 46 = dktX0_take_2 := dk_seg dksX0_take_1 24 rfl rfl
theorem dksX0_take_3 : cX0_take.data.toList.drop 70 = dktX0_take_3 := dk_seg dksX0_take_2 24 rfl rfl
theorem dX0_take_0 : decode cX0_take 0 = .ok (.iconst 0, 1) := dk_3 (dk_at dksX0_take_0 0 rfl rfl)
theorem dX0_take_1 : decode cX0_take 1 = .ok (.istore_n 2, 1) := dk_61 (dk_at dksX0_take_0 1 rfl rfl)
theorem dX0_take_2 : decode cX0_take 2 = .ok (.iconst 0, 1) := dk_3 (dk_at dksX0_take_0 2 rfl rfl)
theorem dX0_take_3 : decode cX0_take 3 = .ok (.istore_n 3, 1) := dk_62 (dk_at dksX0_take_0 3 rfl rfl)
theorem dX0_take_4 : decode cX0_take 4 = .ok (.iload_n 3, 1) := dk_29 (dk_at dksX0_take_0 4 rfl rfl)
theorem dX0_take_5 : decode cX0_take 5 = .ok (.aload_n 0, 1) := dk_42 (dk_at dksX0_take_0 5 rfl rfl)
theorem dX0_take_6 : decode cX0_take 6 = .ok (.getfield 405, 3) := dk_180 1 149 (dk_at dksX0_take_0 6 rfl rfl)
theorem dX0_take_9 : decode cX0_take 9 = .ok (.if_icmp .ge 74, 3) := dk_162 0 74 (dk_at dksX0_take_0 9 rfl rfl)
theorem dX0_take_12 : decode cX0_take 12 = .ok (.aload_n 0, 1) := dk_42 (dk_at dksX0_take_0 12 rfl rfl)
theorem dX0_take_13 : decode cX0_take 13 = .ok (.getfield 180, 3) := dk_180 0 180 (dk_at dksX0_take_0 13 rfl rfl)
theorem dX0_take_16 : decode cX0_take 16 = .ok (.iload_n 3, 1) := dk_29 (dk_at dksX0_take_0 16 rfl rfl)
theorem dX0_take_17 : decode cX0_take 17 = .ok (.invokeinterface 125 2, 5) := by decide +kernel
theorem dX0_take_22 : decode cX0_take 22 = .ok (.checkcast 174, 3) := dk_192 0 174 (dk_at dksX0_take_1 0 rfl rfl)
theorem dX0_take_25 : decode cX0_take 25 = .ok (.astore 4, 2) := dk_58 4 (dk_at dksX0_take_1 3 rfl rfl)
theorem dX0_take_27 : decode cX0_take 27 = .ok (.iload_n 2, 1) := dk_28 (dk_at dksX0_take_1 5 rfl rfl)
theorem dX0_take_28 : decode cX0_take 28 = .ok (.iload_n 1, 1) := dk_27 (dk_at dksX0_take_1 6 rfl rfl)
theorem dX0_take_29 : decode cX0_take 29 = .ok (.if_icmp .ge 48, 3) := dk_162 0 48 (dk_at dksX0_take_1 7 rfl rfl)
theorem dX0_take_32 : decode cX0_take 32 = .ok (.aload 4, 2) := dk_25 4 (dk_at dksX0_take_1 10 rfl rfl)
theorem dX0_take_34 : decode cX0_take 34 = .ok (.getfield 429, 3) := dk_180 1 173 (dk_at dksX0_take_1 12 rfl rfl)
theorem dX0_take_37 : decode cX0_take 37 = .ok (.ifCond .ne 40, 3) := dk_154 0 40 (dk_at dksX0_take_1 15 rfl rfl)
theorem dX0_take_40 : decode cX0_take 40 = .ok (.aload 4, 2) := dk_25 4 (dk_at dksX0_take_1 18 rfl rfl)
theorem dX0_take_42 : decode cX0_take 42 = .ok (.getfield 416, 3) := dk_180 1 160 (dk_at dksX0_take_1 20 rfl rfl)
theorem dX0_take_45 : decode cX0_take 45 = .ok (.aload_n 0, 1) := dk_42 (dk_at dksX0_take_1 23 rfl rfl)
theorem dX0_take_46 : decode cX0_take 46 = .ok (.getfield 367, 3) := dk_180 1 111 (dk_at dksX0_take_2 0 rfl rfl)
theorem dX0_take_49 : decode cX0_take 49 = .ok (.if_icmp .lt 28, 3) := dk_161 0 28 (dk_at dksX0_take_2 3 rfl rfl)
theorem dX0_take_52 : decode cX0_take 52 = .ok (.aload 4, 2) := dk_25 4 (dk_at dksX0_take_2 6 rfl rfl)
theorem dX0_take_54 : decode cX0_take 54 = .ok (.getfield 419, 3) := dk_180 1 163 (dk_at dksX0_take_2 8 rfl rfl)
theorem dX0_take_57 : decode cX0_take 57 = .ok (.aload_n 0, 1) := dk_42 (dk_at dksX0_take_2 11 rfl rfl)
theorem dX0_take_58 : decode cX0_take 58 = .ok (.getfield 171, 3) := dk_180 0 171 (dk_at dksX0_take_2 12 rfl rfl)
theorem dX0_take_61 : decode cX0_take 61 = .ok (.iconst 4, 1) := dk_7 (dk_at dksX0_take_2 15 rfl rfl)
theorem dX0_take_62 : decode cX0_take 62 = .ok (.iaload, 1) := dk_46 (dk_at dksX0_take_2 16 rfl rfl)
theorem dX0_take_63 : decode cX0_take 63 = .ok (.if_icmp .lt 14, 3) := dk_161 0 14 (dk_at dksX0_take_2 17 rfl rfl)
theorem dX0_take_66 : decode cX0_take 66 = .ok (.aload_n 0, 1) := dk_42 (dk_at dksX0_take_2 20 rfl rfl)
theorem dX0_take_67 : decode cX0_take 67 = .ok (.getfield 183, 3) := dk_180 0 183 (dk_at dksX0_take_2 21 rfl rfl)
theorem dX0_take_70 : decode cX0_take 70 = .ok (.iload_n 2, 1) := dk_28 (dk_at dksX0_take_3 0 rfl rfl)
theorem dX0_take_71 : decode cX0_take 71 = .ok (.aload 4, 2) := dk_25 4 (dk_at dksX0_take_3 1 rfl rfl)
theorem dX0_take_73 : decode cX0_take 73 = .ok (.aastore, 1) := dk_83 (dk_at dksX0_take_3 3 rfl rfl)
theorem dX0_take_74 : decode cX0_take 74 = .ok (.iinc 2 1, 3) := dk_132 2 1 (dk_at dksX0_take_3 4 rfl rfl)
theorem dX0_take_77 : decode cX0_take 77 = .ok (.iinc 3 1, 3) := dk_132 3 1 (dk_at dksX0_take_3 7 rfl rfl)
theorem dX0_take_80 : decode cX0_take 80 = .ok (.goto (-76), 3) := dk_167 255 180 (dk_at dksX0_take_3 10 rfl rfl)
theorem dX0_take_83 : decode cX0_take 83 = .ok (.iload_n 2, 1) := dk_28 (dk_at dksX0_take_3 13 rfl rfl)
theorem dX0_take_84 : decode cX0_take 84 = .ok (.ireturn, 1) := dk_172 (dk_at dksX0_take_3 14 rfl rfl)
abbrev cX0_go : ByteArray := prog_1_method_56_code
def yX0_go : MethodName := ⟨RX0, "go", "(III)I"⟩
def dkwX0_go_6 : List UInt8 := [185, 0, 98, 2, 0, 87, 132, 7, 1, 167, 255, 181, 21, 4, 172]
abbrev dktX0_go_6 : List UInt8 := dkwX0_go_6 ++ []
def dkwX0_go_5 : List UInt8 := [181, 1, 188, 42, 180, 0, 180, 25, 8, 185, 1, 191, 2, 0, 87, 42, 180, 0, 180, 25, 8]
abbrev dktX0_go_5 : List UInt8 := dkwX0_go_5 ++ dktX0_go_6
def dkwX0_go_4 : List UInt8 := [25, 8, 89, 180, 1, 176, 21, 5, 21, 6, 100, 96, 181, 1, 176, 42, 89, 180, 1, 188, 21, 6, 96]
abbrev dktX0_go_4 : List UInt8 := dkwX0_go_4 ++ dktX0_go_5
def dkwX0_go_3 : List UInt8 := [54, 7, 21, 7, 21, 4, 162, 0, 74, 42, 180, 0, 183, 21, 7, 50, 58, 8, 25, 8, 4, 181, 1, 173]
abbrev dktX0_go_3 : List UInt8 := dkwX0_go_3 ++ dktX0_go_4
def dkwX0_go_2 : List UInt8 := [162, 0, 6, 16, 252, 172, 42, 182, 1, 143, 21, 4, 108, 54, 5, 21, 5, 16, 10, 108, 54, 6, 3]
abbrev dktX0_go_2 : List UInt8 := dkwX0_go_2 ++ dktX0_go_3
def dkwX0_go_1 : List UInt8 := [16, 252, 159, 0, 6, 16, 254, 172, 42, 182, 1, 146, 54, 4, 42, 21, 4, 182, 1, 185, 21, 4]
abbrev dktX0_go_1 : List UInt8 := dkwX0_go_1 ++ dktX0_go_2
def dkwX0_go_0 : List UInt8 := [42, 27, 28, 29, 182, 1, 133, 154, 0, 5, 2, 172, 42, 27, 28, 29, 182, 1, 137, 42, 3, 182, 1, 140]
abbrev dktX0_go_0 : List UInt8 := dkwX0_go_0 ++ dktX0_go_1
theorem dksX0_go_0 : cX0_go.data.toList.drop 0 = dktX0_go_0 := by decide +kernel
theorem dksX0_go_1 : cX0_go.data.toList.drop 24 = dktX0_go_1 := dk_seg dksX0_go_0 24 rfl rfl
theorem dksX0_go_2 : cX0_go.data.toList.drop 46 = dktX0_go_2 := dk_seg dksX0_go_1 22 rfl rfl
theorem dksX0_go_3 : cX0_go.data.toList.drop 69 = dktX0_go_3 := dk_seg dksX0_go_2 23 rfl rfl
theorem dksX0_go_4 : cX0_go.data.toList.drop 93 = dktX0_go_4 := dk_seg dksX0_go_3 24 rfl rfl
theorem dksX0_go_5 : cX0_go.data.toList.drop 116 = dktX0_go_5 := dk_seg dksX0_go_4 23 rfl rfl
theorem dksX0_go_6 : cX0_go.data.toList.drop 137 = dktX0_go_6 := dk_seg dksX0_go_5 21 rfl rfl
theorem dX0_go_0 : decode cX0_go 0 = .ok (.aload_n 0, 1) := dk_42 (dk_at dksX0_go_0 0 rfl rfl)
theorem dX0_go_1 : decode cX0_go 1 = .ok (.iload_n 1, 1) := dk_27 (dk_at dksX0_go_0 1 rfl rfl)
theorem dX0_go_2 : decode cX0_go 2 = .ok (.iload_n 2, 1) := dk_28 (dk_at dksX0_go_0 2 rfl rfl)
theorem dX0_go_3 : decode cX0_go 3 = .ok (.iload_n 3, 1) := dk_29 (dk_at dksX0_go_0 3 rfl rfl)
theorem dX0_go_4 : decode cX0_go 4 = .ok (.invokevirtual 389, 3) := dk_182 1 133 (dk_at dksX0_go_0 4 rfl rfl)
theorem dX0_go_7 : decode cX0_go 7 = .ok (.ifCond .ne 5, 3) := dk_154 0 5 (dk_at dksX0_go_0 7 rfl rfl)
theorem dX0_go_10 : decode cX0_go 10 = .ok (.iconst (-1), 1) := dk_2 (dk_at dksX0_go_0 10 rfl rfl)
theorem dX0_go_11 : decode cX0_go 11 = .ok (.ireturn, 1) := dk_172 (dk_at dksX0_go_0 11 rfl rfl)
theorem dX0_go_12 : decode cX0_go 12 = .ok (.aload_n 0, 1) := dk_42 (dk_at dksX0_go_0 12 rfl rfl)
theorem dX0_go_13 : decode cX0_go 13 = .ok (.iload_n 1, 1) := dk_27 (dk_at dksX0_go_0 13 rfl rfl)
theorem dX0_go_14 : decode cX0_go 14 = .ok (.iload_n 2, 1) := dk_28 (dk_at dksX0_go_0 14 rfl rfl)
theorem dX0_go_15 : decode cX0_go 15 = .ok (.iload_n 3, 1) := dk_29 (dk_at dksX0_go_0 15 rfl rfl)
theorem dX0_go_16 : decode cX0_go 16 = .ok (.invokevirtual 393, 3) := dk_182 1 137 (dk_at dksX0_go_0 16 rfl rfl)
theorem dX0_go_19 : decode cX0_go 19 = .ok (.aload_n 0, 1) := dk_42 (dk_at dksX0_go_0 19 rfl rfl)
theorem dX0_go_20 : decode cX0_go 20 = .ok (.iconst 0, 1) := dk_3 (dk_at dksX0_go_0 20 rfl rfl)
theorem dX0_go_21 : decode cX0_go 21 = .ok (.invokevirtual 396, 3) := dk_182 1 140 (dk_at dksX0_go_0 21 rfl rfl)
theorem dX0_go_24 : decode cX0_go 24 = .ok (.bipush (-4), 2) := dk_16 252 (dk_at dksX0_go_1 0 rfl rfl)
theorem dX0_go_26 : decode cX0_go 26 = .ok (.if_icmp .eq 6, 3) := dk_159 0 6 (dk_at dksX0_go_1 2 rfl rfl)
theorem dX0_go_29 : decode cX0_go 29 = .ok (.bipush (-2), 2) := dk_16 254 (dk_at dksX0_go_1 5 rfl rfl)
theorem dX0_go_31 : decode cX0_go 31 = .ok (.ireturn, 1) := dk_172 (dk_at dksX0_go_1 7 rfl rfl)
theorem dX0_go_32 : decode cX0_go 32 = .ok (.aload_n 0, 1) := dk_42 (dk_at dksX0_go_1 8 rfl rfl)
theorem dX0_go_33 : decode cX0_go 33 = .ok (.invokevirtual 402, 3) := dk_182 1 146 (dk_at dksX0_go_1 9 rfl rfl)
theorem dX0_go_36 : decode cX0_go 36 = .ok (.istore 4, 2) := dk_54 4 (dk_at dksX0_go_1 12 rfl rfl)
theorem dX0_go_38 : decode cX0_go 38 = .ok (.aload_n 0, 1) := dk_42 (dk_at dksX0_go_1 14 rfl rfl)
theorem dX0_go_39 : decode cX0_go 39 = .ok (.iload 4, 2) := dk_21 4 (dk_at dksX0_go_1 15 rfl rfl)
theorem dX0_go_41 : decode cX0_go 41 = .ok (.invokevirtual 441, 3) := dk_182 1 185 (dk_at dksX0_go_1 17 rfl rfl)
theorem dX0_go_44 : decode cX0_go 44 = .ok (.iload 4, 2) := dk_21 4 (dk_at dksX0_go_1 20 rfl rfl)
theorem dX0_go_46 : decode cX0_go 46 = .ok (.if_icmp .ge 6, 3) := dk_162 0 6 (dk_at dksX0_go_2 0 rfl rfl)
theorem dX0_go_49 : decode cX0_go 49 = .ok (.bipush (-4), 2) := dk_16 252 (dk_at dksX0_go_2 3 rfl rfl)
theorem dX0_go_51 : decode cX0_go 51 = .ok (.ireturn, 1) := dk_172 (dk_at dksX0_go_2 5 rfl rfl)
theorem dX0_go_52 : decode cX0_go 52 = .ok (.aload_n 0, 1) := dk_42 (dk_at dksX0_go_2 6 rfl rfl)
theorem dX0_go_53 : decode cX0_go 53 = .ok (.invokevirtual 399, 3) := dk_182 1 143 (dk_at dksX0_go_2 7 rfl rfl)
theorem dX0_go_56 : decode cX0_go 56 = .ok (.iload 4, 2) := dk_21 4 (dk_at dksX0_go_2 10 rfl rfl)
theorem dX0_go_58 : decode cX0_go 58 = .ok (.idiv, 1) := dk_108 (dk_at dksX0_go_2 12 rfl rfl)
theorem dX0_go_59 : decode cX0_go 59 = .ok (.istore 5, 2) := dk_54 5 (dk_at dksX0_go_2 13 rfl rfl)
theorem dX0_go_61 : decode cX0_go 61 = .ok (.iload 5, 2) := dk_21 5 (dk_at dksX0_go_2 15 rfl rfl)
theorem dX0_go_63 : decode cX0_go 63 = .ok (.bipush 10, 2) := dk_16 10 (dk_at dksX0_go_2 17 rfl rfl)
theorem dX0_go_65 : decode cX0_go 65 = .ok (.idiv, 1) := dk_108 (dk_at dksX0_go_2 19 rfl rfl)
theorem dX0_go_66 : decode cX0_go 66 = .ok (.istore 6, 2) := dk_54 6 (dk_at dksX0_go_2 20 rfl rfl)
theorem dX0_go_68 : decode cX0_go 68 = .ok (.iconst 0, 1) := dk_3 (dk_at dksX0_go_2 22 rfl rfl)
theorem dX0_go_69 : decode cX0_go 69 = .ok (.istore 7, 2) := dk_54 7 (dk_at dksX0_go_3 0 rfl rfl)
theorem dX0_go_71 : decode cX0_go 71 = .ok (.iload 7, 2) := dk_21 7 (dk_at dksX0_go_3 2 rfl rfl)
theorem dX0_go_73 : decode cX0_go 73 = .ok (.iload 4, 2) := dk_21 4 (dk_at dksX0_go_3 4 rfl rfl)
theorem dX0_go_75 : decode cX0_go 75 = .ok (.if_icmp .ge 74, 3) := dk_162 0 74 (dk_at dksX0_go_3 6 rfl rfl)
theorem dX0_go_78 : decode cX0_go 78 = .ok (.aload_n 0, 1) := dk_42 (dk_at dksX0_go_3 9 rfl rfl)
theorem dX0_go_79 : decode cX0_go 79 = .ok (.getfield 183, 3) := dk_180 0 183 (dk_at dksX0_go_3 10 rfl rfl)
theorem dX0_go_82 : decode cX0_go 82 = .ok (.iload 7, 2) := dk_21 7 (dk_at dksX0_go_3 13 rfl rfl)
theorem dX0_go_84 : decode cX0_go 84 = .ok (.aaload, 1) := dk_50 (dk_at dksX0_go_3 15 rfl rfl)
theorem dX0_go_85 : decode cX0_go 85 = .ok (.astore 8, 2) := dk_58 8 (dk_at dksX0_go_3 16 rfl rfl)
theorem dX0_go_87 : decode cX0_go 87 = .ok (.aload 8, 2) := dk_25 8 (dk_at dksX0_go_3 18 rfl rfl)
theorem dX0_go_89 : decode cX0_go 89 = .ok (.iconst 1, 1) := dk_4 (dk_at dksX0_go_3 20 rfl rfl)
theorem dX0_go_90 : decode cX0_go 90 = .ok (.putfield 429, 3) := dk_181 1 173 (dk_at dksX0_go_3 21 rfl rfl)
theorem dX0_go_93 : decode cX0_go 93 = .ok (.aload 8, 2) := dk_25 8 (dk_at dksX0_go_4 0 rfl rfl)
theorem dX0_go_95 : decode cX0_go 95 = .ok (.dup, 1) := dk_89 (dk_at dksX0_go_4 2 rfl rfl)
theorem dX0_go_96 : decode cX0_go 96 = .ok (.getfield 432, 3) := dk_180 1 176 (dk_at dksX0_go_4 3 rfl rfl)
theorem dX0_go_99 : decode cX0_go 99 = .ok (.iload 5, 2) := dk_21 5 (dk_at dksX0_go_4 6 rfl rfl)
theorem dX0_go_101 : decode cX0_go 101 = .ok (.iload 6, 2) := dk_21 6 (dk_at dksX0_go_4 8 rfl rfl)
theorem dX0_go_103 : decode cX0_go 103 = .ok (.isub, 1) := dk_100 (dk_at dksX0_go_4 10 rfl rfl)
theorem dX0_go_104 : decode cX0_go 104 = .ok (.iadd, 1) := dk_96 (dk_at dksX0_go_4 11 rfl rfl)
theorem dX0_go_105 : decode cX0_go 105 = .ok (.putfield 432, 3) := dk_181 1 176 (dk_at dksX0_go_4 12 rfl rfl)
theorem dX0_go_108 : decode cX0_go 108 = .ok (.aload_n 0, 1) := dk_42 (dk_at dksX0_go_4 15 rfl rfl)
theorem dX0_go_109 : decode cX0_go 109 = .ok (.dup, 1) := dk_89 (dk_at dksX0_go_4 16 rfl rfl)
theorem dX0_go_110 : decode cX0_go 110 = .ok (.getfield 444, 3) := dk_180 1 188 (dk_at dksX0_go_4 17 rfl rfl)
theorem dX0_go_113 : decode cX0_go 113 = .ok (.iload 6, 2) := dk_21 6 (dk_at dksX0_go_4 20 rfl rfl)
theorem dX0_go_115 : decode cX0_go 115 = .ok (.iadd, 1) := dk_96 (dk_at dksX0_go_4 22 rfl rfl)
theorem dX0_go_116 : decode cX0_go 116 = .ok (.putfield 444, 3) := dk_181 1 188 (dk_at dksX0_go_5 0 rfl rfl)
theorem dX0_go_119 : decode cX0_go 119 = .ok (.aload_n 0, 1) := dk_42 (dk_at dksX0_go_5 3 rfl rfl)
theorem dX0_go_120 : decode cX0_go 120 = .ok (.getfield 180, 3) := dk_180 0 180 (dk_at dksX0_go_5 4 rfl rfl)
theorem dX0_go_123 : decode cX0_go 123 = .ok (.aload 8, 2) := dk_25 8 (dk_at dksX0_go_5 7 rfl rfl)
theorem dX0_go_125 : decode cX0_go 125 = .ok (.invokeinterface 447 2, 5) := by decide +kernel
theorem dX0_go_130 : decode cX0_go 130 = .ok (.pop, 1) := dk_87 (dk_at dksX0_go_5 14 rfl rfl)
theorem dX0_go_131 : decode cX0_go 131 = .ok (.aload_n 0, 1) := dk_42 (dk_at dksX0_go_5 15 rfl rfl)
theorem dX0_go_132 : decode cX0_go 132 = .ok (.getfield 180, 3) := dk_180 0 180 (dk_at dksX0_go_5 16 rfl rfl)
theorem dX0_go_135 : decode cX0_go 135 = .ok (.aload 8, 2) := dk_25 8 (dk_at dksX0_go_5 19 rfl rfl)
theorem dX0_go_137 : decode cX0_go 137 = .ok (.invokeinterface 98 2, 5) := by decide +kernel
theorem dX0_go_142 : decode cX0_go 142 = .ok (.pop, 1) := dk_87 (dk_at dksX0_go_6 5 rfl rfl)
theorem dX0_go_143 : decode cX0_go 143 = .ok (.iinc 7 1, 3) := dk_132 7 1 (dk_at dksX0_go_6 6 rfl rfl)
theorem dX0_go_146 : decode cX0_go 146 = .ok (.goto (-75), 3) := dk_167 255 181 (dk_at dksX0_go_6 9 rfl rfl)
theorem dX0_go_149 : decode cX0_go 149 = .ok (.iload 4, 2) := dk_21 4 (dk_at dksX0_go_6 12 rfl rfl)
theorem dX0_go_151 : decode cX0_go 151 = .ok (.ireturn, 1) := dk_172 (dk_at dksX0_go_6 14 rfl rfl)
abbrev cX0_person : ByteArray := prog_1_method_58_code
def yX0_person : MethodName := ⟨RX0, "person", "(I)I"⟩
def dkwX0_person_2 : List UInt8 := [100, 172]
abbrev dktX0_person_2 : List UInt8 := dkwX0_person_2 ++ []
def dkwX0_person_1 : List UInt8 := [180, 0, 186, 42, 180, 1, 194, 27, 79, 42, 89, 180, 1, 194, 4, 96, 181, 1, 194, 42, 180, 1, 194, 4]
abbrev dktX0_person_1 : List UInt8 := dkwX0_person_1 ++ dktX0_person_2
def dkwX0_person_0 : List UInt8 := [27, 184, 1, 52, 154, 0, 5, 2, 172, 42, 180, 1, 194, 16, 9, 160, 0, 6, 16, 253, 172, 42]
abbrev dktX0_person_0 : List UInt8 := dkwX0_person_0 ++ dktX0_person_1
theorem dksX0_person_0 : cX0_person.data.toList.drop 0 = dktX0_person_0 := by decide +kernel
theorem dksX0_person_1 : cX0_person.data.toList.drop 22 = dktX0_person_1 := dk_seg dksX0_person_0 22 rfl rfl
theorem dksX0_person_2 : cX0_person.data.toList.drop 46 = dktX0_person_2 := dk_seg dksX0_person_1 24 rfl rfl
theorem dX0_person_0 : decode cX0_person 0 = .ok (.iload_n 1, 1) := dk_27 (dk_at dksX0_person_0 0 rfl rfl)
theorem dX0_person_1 : decode cX0_person 1 = .ok (.invokestatic 308, 3) := dk_184 1 52 (dk_at dksX0_person_0 1 rfl rfl)
theorem dX0_person_4 : decode cX0_person 4 = .ok (.ifCond .ne 5, 3) := dk_154 0 5 (dk_at dksX0_person_0 4 rfl rfl)
theorem dX0_person_7 : decode cX0_person 7 = .ok (.iconst (-1), 1) := dk_2 (dk_at dksX0_person_0 7 rfl rfl)
theorem dX0_person_8 : decode cX0_person 8 = .ok (.ireturn, 1) := dk_172 (dk_at dksX0_person_0 8 rfl rfl)
theorem dX0_person_9 : decode cX0_person 9 = .ok (.aload_n 0, 1) := dk_42 (dk_at dksX0_person_0 9 rfl rfl)
theorem dX0_person_10 : decode cX0_person 10 = .ok (.getfield 450, 3) := dk_180 1 194 (dk_at dksX0_person_0 10 rfl rfl)
theorem dX0_person_13 : decode cX0_person 13 = .ok (.bipush 9, 2) := dk_16 9 (dk_at dksX0_person_0 13 rfl rfl)
theorem dX0_person_15 : decode cX0_person 15 = .ok (.if_icmp .ne 6, 3) := dk_160 0 6 (dk_at dksX0_person_0 15 rfl rfl)
theorem dX0_person_18 : decode cX0_person 18 = .ok (.bipush (-3), 2) := dk_16 253 (dk_at dksX0_person_0 18 rfl rfl)
theorem dX0_person_20 : decode cX0_person 20 = .ok (.ireturn, 1) := dk_172 (dk_at dksX0_person_0 20 rfl rfl)
theorem dX0_person_21 : decode cX0_person 21 = .ok (.aload_n 0, 1) := dk_42 (dk_at dksX0_person_0 21 rfl rfl)
theorem dX0_person_22 : decode cX0_person 22 = .ok (.getfield 186, 3) := dk_180 0 186 (dk_at dksX0_person_1 0 rfl rfl)
theorem dX0_person_25 : decode cX0_person 25 = .ok (.aload_n 0, 1) := dk_42 (dk_at dksX0_person_1 3 rfl rfl)
theorem dX0_person_26 : decode cX0_person 26 = .ok (.getfield 450, 3) := dk_180 1 194 (dk_at dksX0_person_1 4 rfl rfl)
theorem dX0_person_29 : decode cX0_person 29 = .ok (.iload_n 1, 1) := dk_27 (dk_at dksX0_person_1 7 rfl rfl)
theorem dX0_person_30 : decode cX0_person 30 = .ok (.iastore, 1) := dk_79 (dk_at dksX0_person_1 8 rfl rfl)
theorem dX0_person_31 : decode cX0_person 31 = .ok (.aload_n 0, 1) := dk_42 (dk_at dksX0_person_1 9 rfl rfl)
theorem dX0_person_32 : decode cX0_person 32 = .ok (.dup, 1) := dk_89 (dk_at dksX0_person_1 10 rfl rfl)
theorem dX0_person_33 : decode cX0_person 33 = .ok (.getfield 450, 3) := dk_180 1 194 (dk_at dksX0_person_1 11 rfl rfl)
theorem dX0_person_36 : decode cX0_person 36 = .ok (.iconst 1, 1) := dk_4 (dk_at dksX0_person_1 14 rfl rfl)
theorem dX0_person_37 : decode cX0_person 37 = .ok (.iadd, 1) := dk_96 (dk_at dksX0_person_1 15 rfl rfl)
theorem dX0_person_38 : decode cX0_person 38 = .ok (.putfield 450, 3) := dk_181 1 194 (dk_at dksX0_person_1 16 rfl rfl)
theorem dX0_person_41 : decode cX0_person 41 = .ok (.aload_n 0, 1) := dk_42 (dk_at dksX0_person_1 19 rfl rfl)
theorem dX0_person_42 : decode cX0_person 42 = .ok (.getfield 450, 3) := dk_180 1 194 (dk_at dksX0_person_1 20 rfl rfl)
theorem dX0_person_45 : decode cX0_person 45 = .ok (.iconst 1, 1) := dk_4 (dk_at dksX0_person_1 23 rfl rfl)
theorem dX0_person_46 : decode cX0_person 46 = .ok (.isub, 1) := dk_100 (dk_at dksX0_person_2 0 rfl rfl)
theorem dX0_person_47 : decode cX0_person 47 = .ok (.ireturn, 1) := dk_172 (dk_at dksX0_person_2 1 rfl rfl)
abbrev cX0_wish : ByteArray := prog_1_method_59_code
def yX0_wish : MethodName := ⟨RX0, "wish", "(III)I"⟩
def dkwX0_wish_2 : List UInt8 := [54, 4, 42, 180, 0, 189, 27, 50, 28, 29, 79, 21, 4, 172]
abbrev dktX0_wish_2 : List UInt8 := dkwX0_wish_2 ++ []
def dkwX0_wish_1 : List UInt8 := [20, 1, 200, 20, 0, 21, 184, 0, 9, 154, 0, 6, 16, 156, 172, 42, 180, 0, 189, 27, 50, 28, 46]
abbrev dktX0_wish_1 : List UInt8 := dkwX0_wish_1 ++ dktX0_wish_2
def dkwX0_wish_0 : List UInt8 := [42, 27, 182, 1, 197, 153, 0, 30, 42, 28, 182, 1, 197, 153, 0, 22, 27, 28, 159, 0, 17, 29, 133]
abbrev dktX0_wish_0 : List UInt8 := dkwX0_wish_0 ++ dktX0_wish_1
theorem dksX0_wish_0 : cX0_wish.data.toList.drop 0 = dktX0_wish_0 := by decide +kernel
theorem dksX0_wish_1 : cX0_wish.data.toList.drop 23 = dktX0_wish_1 := dk_seg dksX0_wish_0 23 rfl rfl
theorem dksX0_wish_2 : cX0_wish.data.toList.drop 46 = dktX0_wish_2 := dk_seg dksX0_wish_1 23 rfl rfl
theorem dX0_wish_0 : decode cX0_wish 0 = .ok (.aload_n 0, 1) := dk_42 (dk_at dksX0_wish_0 0 rfl rfl)
theorem dX0_wish_1 : decode cX0_wish 1 = .ok (.iload_n 1, 1) := dk_27 (dk_at dksX0_wish_0 1 rfl rfl)
theorem dX0_wish_2 : decode cX0_wish 2 = .ok (.invokevirtual 453, 3) := dk_182 1 197 (dk_at dksX0_wish_0 2 rfl rfl)
theorem dX0_wish_5 : decode cX0_wish 5 = .ok (.ifCond .eq 30, 3) := dk_153 0 30 (dk_at dksX0_wish_0 5 rfl rfl)
theorem dX0_wish_8 : decode cX0_wish 8 = .ok (.aload_n 0, 1) := dk_42 (dk_at dksX0_wish_0 8 rfl rfl)
theorem dX0_wish_9 : decode cX0_wish 9 = .ok (.iload_n 2, 1) := dk_28 (dk_at dksX0_wish_0 9 rfl rfl)
theorem dX0_wish_10 : decode cX0_wish 10 = .ok (.invokevirtual 453, 3) := dk_182 1 197 (dk_at dksX0_wish_0 10 rfl rfl)
theorem dX0_wish_13 : decode cX0_wish 13 = .ok (.ifCond .eq 22, 3) := dk_153 0 22 (dk_at dksX0_wish_0 13 rfl rfl)
theorem dX0_wish_16 : decode cX0_wish 16 = .ok (.iload_n 1, 1) := dk_27 (dk_at dksX0_wish_0 16 rfl rfl)
theorem dX0_wish_17 : decode cX0_wish 17 = .ok (.iload_n 2, 1) := dk_28 (dk_at dksX0_wish_0 17 rfl rfl)
theorem dX0_wish_18 : decode cX0_wish 18 = .ok (.if_icmp .eq 17, 3) := dk_159 0 17 (dk_at dksX0_wish_0 18 rfl rfl)
theorem dX0_wish_21 : decode cX0_wish 21 = .ok (.iload_n 3, 1) := dk_29 (dk_at dksX0_wish_0 21 rfl rfl)
theorem dX0_wish_22 : decode cX0_wish 22 = .ok (.i2l, 1) := dk_133 (dk_at dksX0_wish_0 22 rfl rfl)
theorem dX0_wish_23 : decode cX0_wish 23 = .ok (.ldc2_w 456, 3) := dk_20 1 200 (dk_at dksX0_wish_1 0 rfl rfl)
theorem dX0_wish_26 : decode cX0_wish 26 = .ok (.ldc2_w 21, 3) := dk_20 0 21 (dk_at dksX0_wish_1 3 rfl rfl)
theorem dX0_wish_29 : decode cX0_wish 29 = .ok (.invokestatic 9, 3) := dk_184 0 9 (dk_at dksX0_wish_1 6 rfl rfl)
theorem dX0_wish_32 : decode cX0_wish 32 = .ok (.ifCond .ne 6, 3) := dk_154 0 6 (dk_at dksX0_wish_1 9 rfl rfl)
theorem dX0_wish_35 : decode cX0_wish 35 = .ok (.bipush (-100), 2) := dk_16 156 (dk_at dksX0_wish_1 12 rfl rfl)
theorem dX0_wish_37 : decode cX0_wish 37 = .ok (.ireturn, 1) := dk_172 (dk_at dksX0_wish_1 14 rfl rfl)
theorem dX0_wish_38 : decode cX0_wish 38 = .ok (.aload_n 0, 1) := dk_42 (dk_at dksX0_wish_1 15 rfl rfl)
theorem dX0_wish_39 : decode cX0_wish 39 = .ok (.getfield 189, 3) := dk_180 0 189 (dk_at dksX0_wish_1 16 rfl rfl)
theorem dX0_wish_42 : decode cX0_wish 42 = .ok (.iload_n 1, 1) := dk_27 (dk_at dksX0_wish_1 19 rfl rfl)
theorem dX0_wish_43 : decode cX0_wish 43 = .ok (.aaload, 1) := dk_50 (dk_at dksX0_wish_1 20 rfl rfl)
theorem dX0_wish_44 : decode cX0_wish 44 = .ok (.iload_n 2, 1) := dk_28 (dk_at dksX0_wish_1 21 rfl rfl)
theorem dX0_wish_45 : decode cX0_wish 45 = .ok (.iaload, 1) := dk_46 (dk_at dksX0_wish_1 22 rfl rfl)
theorem dX0_wish_46 : decode cX0_wish 46 = .ok (.istore 4, 2) := dk_54 4 (dk_at dksX0_wish_2 0 rfl rfl)
theorem dX0_wish_48 : decode cX0_wish 48 = .ok (.aload_n 0, 1) := dk_42 (dk_at dksX0_wish_2 2 rfl rfl)
theorem dX0_wish_49 : decode cX0_wish 49 = .ok (.getfield 189, 3) := dk_180 0 189 (dk_at dksX0_wish_2 3 rfl rfl)
theorem dX0_wish_52 : decode cX0_wish 52 = .ok (.iload_n 1, 1) := dk_27 (dk_at dksX0_wish_2 6 rfl rfl)
theorem dX0_wish_53 : decode cX0_wish 53 = .ok (.aaload, 1) := dk_50 (dk_at dksX0_wish_2 7 rfl rfl)
theorem dX0_wish_54 : decode cX0_wish 54 = .ok (.iload_n 2, 1) := dk_28 (dk_at dksX0_wish_2 8 rfl rfl)
theorem dX0_wish_55 : decode cX0_wish 55 = .ok (.iload_n 3, 1) := dk_29 (dk_at dksX0_wish_2 9 rfl rfl)
theorem dX0_wish_56 : decode cX0_wish 56 = .ok (.iastore, 1) := dk_79 (dk_at dksX0_wish_2 10 rfl rfl)
theorem dX0_wish_57 : decode cX0_wish 57 = .ok (.iload 4, 2) := dk_21 4 (dk_at dksX0_wish_2 11 rfl rfl)
theorem dX0_wish_59 : decode cX0_wish 59 = .ok (.ireturn, 1) := dk_172 (dk_at dksX0_wish_2 13 rfl rfl)
abbrev cX0_isPerson : ByteArray := prog_1_method_57_code
def yX0_isPerson : MethodName := ⟨RX0, "isPerson", "(I)Z"⟩
def dkwX0_isPerson_0 : List UInt8 := [27, 133, 9, 42, 180, 1, 194, 4, 100, 133, 184, 0, 9, 172]
abbrev dktX0_isPerson_0 : List UInt8 := dkwX0_isPerson_0 ++ []
theorem dksX0_isPerson_0 : cX0_isPerson.data.toList.drop 0 = dktX0_isPerson_0 := by decide +kernel
theorem dX0_isPerson_0 : decode cX0_isPerson 0 = .ok (.iload_n 1, 1) := dk_27 (dk_at dksX0_isPerson_0 0 rfl rfl)
theorem dX0_isPerson_1 : decode cX0_isPerson 1 = .ok (.i2l, 1) := dk_133 (dk_at dksX0_isPerson_0 1 rfl rfl)
theorem dX0_isPerson_2 : decode cX0_isPerson 2 = .ok (.lconst 0, 1) := dk_9 (dk_at dksX0_isPerson_0 2 rfl rfl)
theorem dX0_isPerson_3 : decode cX0_isPerson 3 = .ok (.aload_n 0, 1) := dk_42 (dk_at dksX0_isPerson_0 3 rfl rfl)
theorem dX0_isPerson_4 : decode cX0_isPerson 4 = .ok (.getfield 450, 3) := dk_180 1 194 (dk_at dksX0_isPerson_0 4 rfl rfl)
theorem dX0_isPerson_7 : decode cX0_isPerson 7 = .ok (.iconst 1, 1) := dk_4 (dk_at dksX0_isPerson_0 7 rfl rfl)
theorem dX0_isPerson_8 : decode cX0_isPerson 8 = .ok (.isub, 1) := dk_100 (dk_at dksX0_isPerson_0 8 rfl rfl)
theorem dX0_isPerson_9 : decode cX0_isPerson 9 = .ok (.i2l, 1) := dk_133 (dk_at dksX0_isPerson_0 9 rfl rfl)
theorem dX0_isPerson_10 : decode cX0_isPerson 10 = .ok (.invokestatic 9, 3) := dk_184 0 9 (dk_at dksX0_isPerson_0 10 rfl rfl)
theorem dX0_isPerson_13 : decode cX0_isPerson 13 = .ok (.ireturn, 1) := dk_172 (dk_at dksX0_isPerson_0 13 rfl rfl)
abbrev cX0_roping : ByteArray := prog_1_method_64_code
def yX0_roping : MethodName := ⟨RX0, "roping", "(II)I"⟩
def dkwX0_roping_9 : List UInt8 := [167, 0, 5, 21, 5, 172]
abbrev dktX0_roping_9 : List UInt8 := dkwX0_roping_9 ++ []
def dkwX0_roping_8 : List UInt8 := [54, 5, 167, 255, 141, 28, 154, 0, 12, 42, 180, 0, 192, 3, 46, 167, 0, 14, 28, 4, 160, 0, 7, 29]
abbrev dktX0_roping_8 : List UInt8 := dkwX0_roping_8 ++ dktX0_roping_9
def dkwX0_roping_7 : List UInt8 := [161, 0, 21, 21, 6, 28, 16, 10, 100, 122, 4, 126, 4, 160, 0, 8, 21, 6, 167, 0, 5, 21, 5]
abbrev dktX0_roping_7 : List UInt8 := dkwX0_roping_7 ++ dktX0_roping_8
def dkwX0_roping_6 : List UInt8 := [159, 0, 9, 132, 6, 1, 167, 255, 198, 132, 3, 1, 21, 4, 21, 6, 128, 54, 4, 28, 16, 10]
abbrev dktX0_roping_6 : List UInt8 := dkwX0_roping_6 ++ dktX0_roping_7
def dkwX0_roping_5 : List UInt8 := [21, 6, 182, 1, 215, 42, 180, 0, 192, 21, 4, 21, 6, 128, 46, 96, 42, 180, 0, 192, 21, 4, 46]
abbrev dktX0_roping_5 : List UInt8 := dkwX0_roping_5 ++ dktX0_roping_6
def dkwX0_roping_4 : List UInt8 := [27, 182, 1, 212, 153, 0, 46, 42, 180, 0, 192, 21, 4, 21, 6, 128, 46, 19, 1, 211, 159, 0, 30, 42]
abbrev dktX0_roping_4 : List UInt8 := dkwX0_roping_4 ++ dktX0_roping_5
def dkwX0_roping_3 : List UInt8 := [3, 54, 5, 21, 4, 4, 42, 180, 1, 194, 120, 4, 100, 159, 0, 108, 6, 54, 6, 42, 21, 4, 21, 6]
abbrev dktX0_roping_3 : List UInt8 := dkwX0_roping_3 ++ dktX0_roping_4
def dkwX0_roping_2 : List UInt8 := [182, 1, 220, 42, 180, 0, 192, 3, 46, 19, 1, 211, 160, 0, 7, 17, 252, 20, 172, 3, 62, 3, 54, 4]
abbrev dktX0_roping_2 : List UInt8 := dkwX0_roping_2 ++ dktX0_roping_3
def dkwX0_roping_1 : List UInt8 := [20, 0, 123, 16, 9, 42, 180, 1, 194, 96, 133, 184, 0, 9, 154, 0, 7, 17, 252, 24, 172, 42, 27]
abbrev dktX0_roping_1 : List UInt8 := dkwX0_roping_1 ++ dktX0_roping_2
def dkwX0_roping_0 : List UInt8 := [27, 133, 9, 20, 1, 218, 184, 0, 9, 153, 0, 32, 28, 133, 9, 10, 184, 0, 9, 154, 0, 26, 28, 133]
abbrev dktX0_roping_0 : List UInt8 := dkwX0_roping_0 ++ dktX0_roping_1
theorem dksX0_roping_0 : cX0_roping.data.toList.drop 0 = dktX0_roping_0 := by decide +kernel
theorem dksX0_roping_1 : cX0_roping.data.toList.drop 24 = dktX0_roping_1 := dk_seg dksX0_roping_0 24 rfl rfl
theorem dksX0_roping_2 : cX0_roping.data.toList.drop 47 = dktX0_roping_2 := dk_seg dksX0_roping_1 23 rfl rfl
theorem dksX0_roping_3 : cX0_roping.data.toList.drop 71 = dktX0_roping_3 := dk_seg dksX0_roping_2 24 rfl rfl
theorem dksX0_roping_4 : cX0_roping.data.toList.drop 95 = dktX0_roping_4 := dk_seg dksX0_roping_3 24 rfl rfl
theorem dksX0_roping_5 : cX0_roping.data.toList.drop 119 = dktX0_roping_5 := dk_seg dksX0_roping_4 24 rfl rfl
theorem dksX0_roping_6 : cX0_roping.data.toList.drop 142 = dktX0_roping_6 := dk_seg dksX0_roping_5 23 rfl rfl
theorem dksX0_roping_7 : cX0_roping.data.toList.drop 164 = dktX0_roping_7 := dk_seg dksX0_roping_6 22 rfl rfl
theorem dksX0_roping_8 : cX0_roping.data.toList.drop 187 = dktX0_roping_8 := dk_seg dksX0_roping_7 23 rfl rfl
theorem dksX0_roping_9 : cX0_roping.data.toList.drop 211 = dktX0_roping_9 := dk_seg dksX0_roping_8 24 rfl rfl
theorem dX0_roping_0 : decode cX0_roping 0 = .ok (.iload_n 1, 1) := dk_27 (dk_at dksX0_roping_0 0 rfl rfl)
theorem dX0_roping_1 : decode cX0_roping 1 = .ok (.i2l, 1) := dk_133 (dk_at dksX0_roping_0 1 rfl rfl)
theorem dX0_roping_2 : decode cX0_roping 2 = .ok (.lconst 0, 1) := dk_9 (dk_at dksX0_roping_0 2 rfl rfl)
theorem dX0_roping_3 : decode cX0_roping 3 = .ok (.ldc2_w 474, 3) := dk_20 1 218 (dk_at dksX0_roping_0 3 rfl rfl)
theorem dX0_roping_6 : decode cX0_roping 6 = .ok (.invokestatic 9, 3) := dk_184 0 9 (dk_at dksX0_roping_0 6 rfl rfl)
theorem dX0_roping_9 : decode cX0_roping 9 = .ok (.ifCond .eq 32, 3) := dk_153 0 32 (dk_at dksX0_roping_0 9 rfl rfl)
theorem dX0_roping_12 : decode cX0_roping 12 = .ok (.iload_n 2, 1) := dk_28 (dk_at dksX0_roping_0 12 rfl rfl)
theorem dX0_roping_13 : decode cX0_roping 13 = .ok (.i2l, 1) := dk_133 (dk_at dksX0_roping_0 13 rfl rfl)
theorem dX0_roping_14 : decode cX0_roping 14 = .ok (.lconst 0, 1) := dk_9 (dk_at dksX0_roping_0 14 rfl rfl)
theorem dX0_roping_15 : decode cX0_roping 15 = .ok (.lconst 1, 1) := dk_10 (dk_at dksX0_roping_0 15 rfl rfl)
theorem dX0_roping_16 : decode cX0_roping 16 = .ok (.invokestatic 9, 3) := dk_184 0 9 (dk_at dksX0_roping_0 16 rfl rfl)
theorem dX0_roping_19 : decode cX0_roping 19 = .ok (.ifCond .ne 26, 3) := dk_154 0 26 (dk_at dksX0_roping_0 19 rfl rfl)
theorem dX0_roping_22 : decode cX0_roping 22 = .ok (.iload_n 2, 1) := dk_28 (dk_at dksX0_roping_0 22 rfl rfl)
theorem dX0_roping_23 : decode cX0_roping 23 = .ok (.i2l, 1) := dk_133 (dk_at dksX0_roping_0 23 rfl rfl)
theorem dX0_roping_24 : decode cX0_roping 24 = .ok (.ldc2_w 123, 3) := dk_20 0 123 (dk_at dksX0_roping_1 0 rfl rfl)
theorem dX0_roping_27 : decode cX0_roping 27 = .ok (.bipush 9, 2) := dk_16 9 (dk_at dksX0_roping_1 3 rfl rfl)
theorem dX0_roping_29 : decode cX0_roping 29 = .ok (.aload_n 0, 1) := dk_42 (dk_at dksX0_roping_1 5 rfl rfl)
theorem dX0_roping_30 : decode cX0_roping 30 = .ok (.getfield 450, 3) := dk_180 1 194 (dk_at dksX0_roping_1 6 rfl rfl)
theorem dX0_roping_33 : decode cX0_roping 33 = .ok (.iadd, 1) := dk_96 (dk_at dksX0_roping_1 9 rfl rfl)
theorem dX0_roping_34 : decode cX0_roping 34 = .ok (.i2l, 1) := dk_133 (dk_at dksX0_roping_1 10 rfl rfl)
theorem dX0_roping_35 : decode cX0_roping 35 = .ok (.invokestatic 9, 3) := dk_184 0 9 (dk_at dksX0_roping_1 11 rfl rfl)
theorem dX0_roping_38 : decode cX0_roping 38 = .ok (.ifCond .ne 7, 3) := dk_154 0 7 (dk_at dksX0_roping_1 14 rfl rfl)
theorem dX0_roping_41 : decode cX0_roping 41 = .ok (.sipush (-1000), 3) := dk_17 252 24 (dk_at dksX0_roping_1 17 rfl rfl)
theorem dX0_roping_44 : decode cX0_roping 44 = .ok (.ireturn, 1) := dk_172 (dk_at dksX0_roping_1 20 rfl rfl)
theorem dX0_roping_45 : decode cX0_roping 45 = .ok (.aload_n 0, 1) := dk_42 (dk_at dksX0_roping_1 21 rfl rfl)
theorem dX0_roping_46 : decode cX0_roping 46 = .ok (.iload_n 1, 1) := dk_27 (dk_at dksX0_roping_1 22 rfl rfl)
theorem dX0_roping_47 : decode cX0_roping 47 = .ok (.invokevirtual 476, 3) := dk_182 1 220 (dk_at dksX0_roping_2 0 rfl rfl)
theorem dX0_roping_50 : decode cX0_roping 50 = .ok (.aload_n 0, 1) := dk_42 (dk_at dksX0_roping_2 3 rfl rfl)
theorem dX0_roping_51 : decode cX0_roping 51 = .ok (.getfield 192, 3) := dk_180 0 192 (dk_at dksX0_roping_2 4 rfl rfl)
theorem dX0_roping_54 : decode cX0_roping 54 = .ok (.iconst 0, 1) := dk_3 (dk_at dksX0_roping_2 7 rfl rfl)
theorem dX0_roping_55 : decode cX0_roping 55 = .ok (.iaload, 1) := dk_46 (dk_at dksX0_roping_2 8 rfl rfl)
theorem dX0_roping_56 : decode cX0_roping 56 = .ok (.ldc_w 467, 3) := dk_19 1 211 (dk_at dksX0_roping_2 9 rfl rfl)
theorem dX0_roping_59 : decode cX0_roping 59 = .ok (.if_icmp .ne 7, 3) := dk_160 0 7 (dk_at dksX0_roping_2 12 rfl rfl)
theorem dX0_roping_62 : decode cX0_roping 62 = .ok (.sipush (-1004), 3) := dk_17 252 20 (dk_at dksX0_roping_2 15 rfl rfl)
theorem dX0_roping_65 : decode cX0_roping 65 = .ok (.ireturn, 1) := dk_172 (dk_at dksX0_roping_2 18 rfl rfl)
theorem dX0_roping_66 : decode cX0_roping 66 = .ok (.iconst 0, 1) := dk_3 (dk_at dksX0_roping_2 19 rfl rfl)
theorem dX0_roping_67 : decode cX0_roping 67 = .ok (.istore_n 3, 1) := dk_62 (dk_at dksX0_roping_2 20 rfl rfl)
theorem dX0_roping_68 : decode cX0_roping 68 = .ok (.iconst 0, 1) := dk_3 (dk_at dksX0_roping_2 21 rfl rfl)
theorem dX0_roping_69 : decode cX0_roping 69 = .ok (.istore 4, 2) := dk_54 4 (dk_at dksX0_roping_2 22 rfl rfl)
theorem dX0_roping_71 : decode cX0_roping 71 = .ok (.iconst 0, 1) := dk_3 (dk_at dksX0_roping_3 0 rfl rfl)
theorem dX0_roping_72 : decode cX0_roping 72 = .ok (.istore 5, 2) := dk_54 5 (dk_at dksX0_roping_3 1 rfl rfl)
theorem dX0_roping_74 : decode cX0_roping 74 = .ok (.iload 4, 2) := dk_21 4 (dk_at dksX0_roping_3 3 rfl rfl)
theorem dX0_roping_76 : decode cX0_roping 76 = .ok (.iconst 1, 1) := dk_4 (dk_at dksX0_roping_3 5 rfl rfl)
theorem dX0_roping_77 : decode cX0_roping 77 = .ok (.aload_n 0, 1) := dk_42 (dk_at dksX0_roping_3 6 rfl rfl)
theorem dX0_roping_78 : decode cX0_roping 78 = .ok (.getfield 450, 3) := dk_180 1 194 (dk_at dksX0_roping_3 7 rfl rfl)
theorem dX0_roping_81 : decode cX0_roping 81 = .ok (.ishl, 1) := dk_120 (dk_at dksX0_roping_3 10 rfl rfl)
theorem dX0_roping_82 : decode cX0_roping 82 = .ok (.iconst 1, 1) := dk_4 (dk_at dksX0_roping_3 11 rfl rfl)
theorem dX0_roping_83 : decode cX0_roping 83 = .ok (.isub, 1) := dk_100 (dk_at dksX0_roping_3 12 rfl rfl)
theorem dX0_roping_84 : decode cX0_roping 84 = .ok (.if_icmp .eq 108, 3) := dk_159 0 108 (dk_at dksX0_roping_3 13 rfl rfl)
theorem dX0_roping_87 : decode cX0_roping 87 = .ok (.iconst 3, 1) := dk_6 (dk_at dksX0_roping_3 16 rfl rfl)
theorem dX0_roping_88 : decode cX0_roping 88 = .ok (.istore 6, 2) := dk_54 6 (dk_at dksX0_roping_3 17 rfl rfl)
theorem dX0_roping_90 : decode cX0_roping 90 = .ok (.aload_n 0, 1) := dk_42 (dk_at dksX0_roping_3 19 rfl rfl)
theorem dX0_roping_91 : decode cX0_roping 91 = .ok (.iload 4, 2) := dk_21 4 (dk_at dksX0_roping_3 20 rfl rfl)
theorem dX0_roping_93 : decode cX0_roping 93 = .ok (.iload 6, 2) := dk_21 6 (dk_at dksX0_roping_3 22 rfl rfl)
theorem dX0_roping_95 : decode cX0_roping 95 = .ok (.iload_n 1, 1) := dk_27 (dk_at dksX0_roping_4 0 rfl rfl)
theorem dX0_roping_96 : decode cX0_roping 96 = .ok (.invokevirtual 468, 3) := dk_182 1 212 (dk_at dksX0_roping_4 1 rfl rfl)
theorem dX0_roping_99 : decode cX0_roping 99 = .ok (.ifCond .eq 46, 3) := dk_153 0 46 (dk_at dksX0_roping_4 4 rfl rfl)
theorem dX0_roping_102 : decode cX0_roping 102 = .ok (.aload_n 0, 1) := dk_42 (dk_at dksX0_roping_4 7 rfl rfl)
theorem dX0_roping_103 : decode cX0_roping 103 = .ok (.getfield 192, 3) := dk_180 0 192 (dk_at dksX0_roping_4 8 rfl rfl)
theorem dX0_roping_106 : decode cX0_roping 106 = .ok (.iload 4, 2) := dk_21 4 (dk_at dksX0_roping_4 11 rfl rfl)
theorem dX0_roping_108 : decode cX0_roping 108 = .ok (.iload 6, 2) := dk_21 6 (dk_at dksX0_roping_4 13 rfl rfl)
theorem dX0_roping_110 : decode cX0_roping 110 = .ok (.ior, 1) := dk_128 (dk_at dksX0_roping_4 15 rfl rfl)
theorem dX0_roping_111 : decode cX0_roping 111 = .ok (.iaload, 1) := dk_46 (dk_at dksX0_roping_4 16 rfl rfl)
theorem dX0_roping_112 : decode cX0_roping 112 = .ok (.ldc_w 467, 3) := dk_19 1 211 (dk_at dksX0_roping_4 17 rfl rfl)
theorem dX0_roping_115 : decode cX0_roping 115 = .ok (.if_icmp .eq 30, 3) := dk_159 0 30 (dk_at dksX0_roping_4 20 rfl rfl)
theorem dX0_roping_118 : decode cX0_roping 118 = .ok (.aload_n 0, 1) := dk_42 (dk_at dksX0_roping_4 23 rfl rfl)
theorem dX0_roping_119 : decode cX0_roping 119 = .ok (.iload 6, 2) := dk_21 6 (dk_at dksX0_roping_5 0 rfl rfl)
theorem dX0_roping_121 : decode cX0_roping 121 = .ok (.invokevirtual 471, 3) := dk_182 1 215 (dk_at dksX0_roping_5 2 rfl rfl)
theorem dX0_roping_124 : decode cX0_roping 124 = .ok (.aload_n 0, 1) := dk_42 (dk_at dksX0_roping_5 5 rfl rfl)
theorem dX0_roping_125 : decode cX0_roping 125 = .ok (.getfield 192, 3) := dk_180 0 192 (dk_at dksX0_roping_5 6 rfl rfl)
theorem dX0_roping_128 : decode cX0_roping 128 = .ok (.iload 4, 2) := dk_21 4 (dk_at dksX0_roping_5 9 rfl rfl)
theorem dX0_roping_130 : decode cX0_roping 130 = .ok (.iload 6, 2) := dk_21 6 (dk_at dksX0_roping_5 11 rfl rfl)
theorem dX0_roping_132 : decode cX0_roping 132 = .ok (.ior, 1) := dk_128 (dk_at dksX0_roping_5 13 rfl rfl)
theorem dX0_roping_133 : decode cX0_roping 133 = .ok (.iaload, 1) := dk_46 (dk_at dksX0_roping_5 14 rfl rfl)
theorem dX0_roping_134 : decode cX0_roping 134 = .ok (.iadd, 1) := dk_96 (dk_at dksX0_roping_5 15 rfl rfl)
theorem dX0_roping_135 : decode cX0_roping 135 = .ok (.aload_n 0, 1) := dk_42 (dk_at dksX0_roping_5 16 rfl rfl)
theorem dX0_roping_136 : decode cX0_roping 136 = .ok (.getfield 192, 3) := dk_180 0 192 (dk_at dksX0_roping_5 17 rfl rfl)
theorem dX0_roping_139 : decode cX0_roping 139 = .ok (.iload 4, 2) := dk_21 4 (dk_at dksX0_roping_5 20 rfl rfl)
theorem dX0_roping_141 : decode cX0_roping 141 = .ok (.iaload, 1) := dk_46 (dk_at dksX0_roping_5 22 rfl rfl)
theorem dX0_roping_142 : decode cX0_roping 142 = .ok (.if_icmp .eq 9, 3) := dk_159 0 9 (dk_at dksX0_roping_6 0 rfl rfl)
theorem dX0_roping_145 : decode cX0_roping 145 = .ok (.iinc 6 1, 3) := dk_132 6 1 (dk_at dksX0_roping_6 3 rfl rfl)
theorem dX0_roping_148 : decode cX0_roping 148 = .ok (.goto (-58), 3) := dk_167 255 198 (dk_at dksX0_roping_6 6 rfl rfl)
theorem dX0_roping_151 : decode cX0_roping 151 = .ok (.iinc 3 1, 3) := dk_132 3 1 (dk_at dksX0_roping_6 9 rfl rfl)
theorem dX0_roping_154 : decode cX0_roping 154 = .ok (.iload 4, 2) := dk_21 4 (dk_at dksX0_roping_6 12 rfl rfl)
theorem dX0_roping_156 : decode cX0_roping 156 = .ok (.iload 6, 2) := dk_21 6 (dk_at dksX0_roping_6 14 rfl rfl)
theorem dX0_roping_158 : decode cX0_roping 158 = .ok (.ior, 1) := dk_128 (dk_at dksX0_roping_6 16 rfl rfl)
theorem dX0_roping_159 : decode cX0_roping 159 = .ok (.istore 4, 2) := dk_54 4 (dk_at dksX0_roping_6 17 rfl rfl)
theorem dX0_roping_161 : decode cX0_roping 161 = .ok (.iload_n 2, 1) := dk_28 (dk_at dksX0_roping_6 19 rfl rfl)
theorem dX0_roping_162 : decode cX0_roping 162 = .ok (.bipush 10, 2) := dk_16 10 (dk_at dksX0_roping_6 20 rfl rfl)
theorem dX0_roping_164 : decode cX0_roping 164 = .ok (.if_icmp .lt 21, 3) := dk_161 0 21 (dk_at dksX0_roping_7 0 rfl rfl)
theorem dX0_roping_167 : decode cX0_roping 167 = .ok (.iload 6, 2) := dk_21 6 (dk_at dksX0_roping_7 3 rfl rfl)
theorem dX0_roping_169 : decode cX0_roping 169 = .ok (.iload_n 2, 1) := dk_28 (dk_at dksX0_roping_7 5 rfl rfl)
theorem dX0_roping_170 : decode cX0_roping 170 = .ok (.bipush 10, 2) := dk_16 10 (dk_at dksX0_roping_7 6 rfl rfl)
theorem dX0_roping_172 : decode cX0_roping 172 = .ok (.isub, 1) := dk_100 (dk_at dksX0_roping_7 8 rfl rfl)
theorem dX0_roping_173 : decode cX0_roping 173 = .ok (.ishr, 1) := dk_122 (dk_at dksX0_roping_7 9 rfl rfl)
theorem dX0_roping_174 : decode cX0_roping 174 = .ok (.iconst 1, 1) := dk_4 (dk_at dksX0_roping_7 10 rfl rfl)
theorem dX0_roping_175 : decode cX0_roping 175 = .ok (.iand, 1) := dk_126 (dk_at dksX0_roping_7 11 rfl rfl)
theorem dX0_roping_176 : decode cX0_roping 176 = .ok (.iconst 1, 1) := dk_4 (dk_at dksX0_roping_7 12 rfl rfl)
theorem dX0_roping_177 : decode cX0_roping 177 = .ok (.if_icmp .ne 8, 3) := dk_160 0 8 (dk_at dksX0_roping_7 13 rfl rfl)
theorem dX0_roping_180 : decode cX0_roping 180 = .ok (.iload 6, 2) := dk_21 6 (dk_at dksX0_roping_7 16 rfl rfl)
theorem dX0_roping_182 : decode cX0_roping 182 = .ok (.goto 5, 3) := dk_167 0 5 (dk_at dksX0_roping_7 18 rfl rfl)
theorem dX0_roping_185 : decode cX0_roping 185 = .ok (.iload 5, 2) := dk_21 5 (dk_at dksX0_roping_7 21 rfl rfl)
theorem dX0_roping_187 : decode cX0_roping 187 = .ok (.istore 5, 2) := dk_54 5 (dk_at dksX0_roping_8 0 rfl rfl)
theorem dX0_roping_189 : decode cX0_roping 189 = .ok (.goto (-115), 3) := dk_167 255 141 (dk_at dksX0_roping_8 2 rfl rfl)
theorem dX0_roping_192 : decode cX0_roping 192 = .ok (.iload_n 2, 1) := dk_28 (dk_at dksX0_roping_8 5 rfl rfl)
theorem dX0_roping_193 : decode cX0_roping 193 = .ok (.ifCond .ne 12, 3) := dk_154 0 12 (dk_at dksX0_roping_8 6 rfl rfl)
theorem dX0_roping_196 : decode cX0_roping 196 = .ok (.aload_n 0, 1) := dk_42 (dk_at dksX0_roping_8 9 rfl rfl)
theorem dX0_roping_197 : decode cX0_roping 197 = .ok (.getfield 192, 3) := dk_180 0 192 (dk_at dksX0_roping_8 10 rfl rfl)
theorem dX0_roping_200 : decode cX0_roping 200 = .ok (.iconst 0, 1) := dk_3 (dk_at dksX0_roping_8 13 rfl rfl)
theorem dX0_roping_201 : decode cX0_roping 201 = .ok (.iaload, 1) := dk_46 (dk_at dksX0_roping_8 14 rfl rfl)
theorem dX0_roping_202 : decode cX0_roping 202 = .ok (.goto 14, 3) := dk_167 0 14 (dk_at dksX0_roping_8 15 rfl rfl)
theorem dX0_roping_205 : decode cX0_roping 205 = .ok (.iload_n 2, 1) := dk_28 (dk_at dksX0_roping_8 18 rfl rfl)
theorem dX0_roping_206 : decode cX0_roping 206 = .ok (.iconst 1, 1) := dk_4 (dk_at dksX0_roping_8 19 rfl rfl)
theorem dX0_roping_207 : decode cX0_roping 207 = .ok (.if_icmp .ne 7, 3) := dk_160 0 7 (dk_at dksX0_roping_8 20 rfl rfl)
theorem dX0_roping_210 : decode cX0_roping 210 = .ok (.iload_n 3, 1) := dk_29 (dk_at dksX0_roping_8 23 rfl rfl)
theorem dX0_roping_211 : decode cX0_roping 211 = .ok (.goto 5, 3) := dk_167 0 5 (dk_at dksX0_roping_9 0 rfl rfl)
theorem dX0_roping_214 : decode cX0_roping 214 = .ok (.iload 5, 2) := dk_21 5 (dk_at dksX0_roping_9 3 rfl rfl)
theorem dX0_roping_216 : decode cX0_roping 216 = .ok (.ireturn, 1) := dk_172 (dk_at dksX0_roping_9 5 rfl rfl)
abbrev cX0_layRopes : ByteArray := prog_1_method_63_code
def yX0_layRopes : MethodName := ⟨RX0, "layRopes", "(I)V"⟩
def dkwX0_layRopes_4 : List UInt8 := [46, 96, 184, 1, 27, 79, 132, 4, 1, 167, 255, 190, 132, 3, 255, 167, 255, 168, 177]
abbrev dktX0_layRopes_4 : List UInt8 := dkwX0_layRopes_4 ++ []
def dkwX0_layRopes_3 : List UInt8 := [180, 0, 192, 29, 42, 180, 0, 192, 29, 46, 42, 21, 4, 182, 1, 215, 42, 180, 0, 192, 29, 21, 4, 128]
abbrev dktX0_layRopes_3 : List UInt8 := dkwX0_layRopes_3 ++ dktX0_layRopes_4
def dkwX0_layRopes_2 : List UInt8 := [182, 1, 212, 153, 0, 49, 42, 180, 0, 192, 29, 21, 4, 128, 46, 19, 1, 211, 159, 0, 34, 42]
abbrev dktX0_layRopes_2 : List UInt8 := dkwX0_layRopes_2 ++ dktX0_layRopes_3
def dkwX0_layRopes_1 : List UInt8 := [42, 180, 0, 192, 29, 19, 1, 211, 79, 6, 54, 4, 21, 4, 28, 163, 0, 66, 42, 29, 21, 4, 27]
abbrev dktX0_layRopes_1 : List UInt8 := dkwX0_layRopes_1 ++ dktX0_layRopes_2
def dkwX0_layRopes_0 : List UInt8 := [4, 42, 180, 1, 194, 120, 4, 100, 61, 42, 180, 0, 192, 28, 3, 79, 28, 4, 100, 62, 29, 155, 0, 90]
abbrev dktX0_layRopes_0 : List UInt8 := dkwX0_layRopes_0 ++ dktX0_layRopes_1
theorem dksX0_layRopes_0 : cX0_layRopes.data.toList.drop 0 = dktX0_layRopes_0 := by decide +kernel
theorem dksX0_layRopes_1 : cX0_layRopes.data.toList.drop 24 = dktX0_layRopes_1 := dk_seg dksX0_layRopes_0 24 rfl rfl
theorem dksX0_layRopes_2 : cX0_layRopes.data.toList.drop 47 = dktX0_layRopes_2 := dk_seg dksX0_layRopes_1 23 rfl rfl
theorem dksX0_layRopes_3 : cX0_layRopes.data.toList.drop 69 = dktX0_layRopes_3 := dk_seg dksX0_layRopes_2 22 rfl rfl
theorem dksX0_layRopes_4 : cX0_layRopes.data.toList.drop 93 = dktX0_layRopes_4 := dk_seg dksX0_layRopes_3 24 rfl rfl
theorem dX0_layRopes_0 : decode cX0_layRopes 0 = .ok (.iconst 1, 1) := dk_4 (dk_at dksX0_layRopes_0 0 rfl rfl)
theorem dX0_layRopes_1 : decode cX0_layRopes 1 = .ok (.aload_n 0, 1) := dk_42 (dk_at dksX0_layRopes_0 1 rfl rfl)
theorem dX0_layRopes_2 : decode cX0_layRopes 2 = .ok (.getfield 450, 3) := dk_180 1 194 (dk_at dksX0_layRopes_0 2 rfl rfl)
theorem dX0_layRopes_5 : decode cX0_layRopes 5 = .ok (.ishl, 1) := dk_120 (dk_at dksX0_layRopes_0 5 rfl rfl)
theorem dX0_layRopes_6 : decode cX0_layRopes 6 = .ok (.iconst 1, 1) := dk_4 (dk_at dksX0_layRopes_0 6 rfl rfl)
theorem dX0_layRopes_7 : decode cX0_layRopes 7 = .ok (.isub, 1) := dk_100 (dk_at dksX0_layRopes_0 7 rfl rfl)
theorem dX0_layRopes_8 : decode cX0_layRopes 8 = .ok (.istore_n 2, 1) := dk_61 (dk_at dksX0_layRopes_0 8 rfl rfl)
theorem dX0_layRopes_9 : decode cX0_layRopes 9 = .ok (.aload_n 0, 1) := dk_42 (dk_at dksX0_layRopes_0 9 rfl rfl)
theorem dX0_layRopes_10 : decode cX0_layRopes 10 = .ok (.getfield 192, 3) := dk_180 0 192 (dk_at dksX0_layRopes_0 10 rfl rfl)
theorem dX0_layRopes_13 : decode cX0_layRopes 13 = .ok (.iload_n 2, 1) := dk_28 (dk_at dksX0_layRopes_0 13 rfl rfl)
theorem dX0_layRopes_14 : decode cX0_layRopes 14 = .ok (.iconst 0, 1) := dk_3 (dk_at dksX0_layRopes_0 14 rfl rfl)
theorem dX0_layRopes_15 : decode cX0_layRopes 15 = .ok (.iastore, 1) := dk_79 (dk_at dksX0_layRopes_0 15 rfl rfl)
theorem dX0_layRopes_16 : decode cX0_layRopes 16 = .ok (.iload_n 2, 1) := dk_28 (dk_at dksX0_layRopes_0 16 rfl rfl)
theorem dX0_layRopes_17 : decode cX0_layRopes 17 = .ok (.iconst 1, 1) := dk_4 (dk_at dksX0_layRopes_0 17 rfl rfl)
theorem dX0_layRopes_18 : decode cX0_layRopes 18 = .ok (.isub, 1) := dk_100 (dk_at dksX0_layRopes_0 18 rfl rfl)
theorem dX0_layRopes_19 : decode cX0_layRopes 19 = .ok (.istore_n 3, 1) := dk_62 (dk_at dksX0_layRopes_0 19 rfl rfl)
theorem dX0_layRopes_20 : decode cX0_layRopes 20 = .ok (.iload_n 3, 1) := dk_29 (dk_at dksX0_layRopes_0 20 rfl rfl)
theorem dX0_layRopes_21 : decode cX0_layRopes 21 = .ok (.ifCond .lt 90, 3) := dk_155 0 90 (dk_at dksX0_layRopes_0 21 rfl rfl)
theorem dX0_layRopes_24 : decode cX0_layRopes 24 = .ok (.aload_n 0, 1) := dk_42 (dk_at dksX0_layRopes_1 0 rfl rfl)
theorem dX0_layRopes_25 : decode cX0_layRopes 25 = .ok (.getfield 192, 3) := dk_180 0 192 (dk_at dksX0_layRopes_1 1 rfl rfl)
theorem dX0_layRopes_28 : decode cX0_layRopes 28 = .ok (.iload_n 3, 1) := dk_29 (dk_at dksX0_layRopes_1 4 rfl rfl)
theorem dX0_layRopes_29 : decode cX0_layRopes 29 = .ok (.ldc_w 467, 3) := dk_19 1 211 (dk_at dksX0_layRopes_1 5 rfl rfl)
theorem dX0_layRopes_32 : decode cX0_layRopes 32 = .ok (.iastore, 1) := dk_79 (dk_at dksX0_layRopes_1 8 rfl rfl)
theorem dX0_layRopes_33 : decode cX0_layRopes 33 = .ok (.iconst 3, 1) := dk_6 (dk_at dksX0_layRopes_1 9 rfl rfl)
theorem dX0_layRopes_34 : decode cX0_layRopes 34 = .ok (.istore 4, 2) := dk_54 4 (dk_at dksX0_layRopes_1 10 rfl rfl)
theorem dX0_layRopes_36 : decode cX0_layRopes 36 = .ok (.iload 4, 2) := dk_21 4 (dk_at dksX0_layRopes_1 12 rfl rfl)
theorem dX0_layRopes_38 : decode cX0_layRopes 38 = .ok (.iload_n 2, 1) := dk_28 (dk_at dksX0_layRopes_1 14 rfl rfl)
theorem dX0_layRopes_39 : decode cX0_layRopes 39 = .ok (.if_icmp .gt 66, 3) := dk_163 0 66 (dk_at dksX0_layRopes_1 15 rfl rfl)
theorem dX0_layRopes_42 : decode cX0_layRopes 42 = .ok (.aload_n 0, 1) := dk_42 (dk_at dksX0_layRopes_1 18 rfl rfl)
theorem dX0_layRopes_43 : decode cX0_layRopes 43 = .ok (.iload_n 3, 1) := dk_29 (dk_at dksX0_layRopes_1 19 rfl rfl)
theorem dX0_layRopes_44 : decode cX0_layRopes 44 = .ok (.iload 4, 2) := dk_21 4 (dk_at dksX0_layRopes_1 20 rfl rfl)
theorem dX0_layRopes_46 : decode cX0_layRopes 46 = .ok (.iload_n 1, 1) := dk_27 (dk_at dksX0_layRopes_1 22 rfl rfl)
theorem dX0_layRopes_47 : decode cX0_layRopes 47 = .ok (.invokevirtual 468, 3) := dk_182 1 212 (dk_at dksX0_layRopes_2 0 rfl rfl)
theorem dX0_layRopes_50 : decode cX0_layRopes 50 = .ok (.ifCond .eq 49, 3) := dk_153 0 49 (dk_at dksX0_layRopes_2 3 rfl rfl)
theorem dX0_layRopes_53 : decode cX0_layRopes 53 = .ok (.aload_n 0, 1) := dk_42 (dk_at dksX0_layRopes_2 6 rfl rfl)
theorem dX0_layRopes_54 : decode cX0_layRopes 54 = .ok (.getfield 192, 3) := dk_180 0 192 (dk_at dksX0_layRopes_2 7 rfl rfl)
theorem dX0_layRopes_57 : decode cX0_layRopes 57 = .ok (.iload_n 3, 1) := dk_29 (dk_at dksX0_layRopes_2 10 rfl rfl)
theorem dX0_layRopes_58 : decode cX0_layRopes 58 = .ok (.iload 4, 2) := dk_21 4 (dk_at dksX0_layRopes_2 11 rfl rfl)
theorem dX0_layRopes_60 : decode cX0_layRopes 60 = .ok (.ior, 1) := dk_128 (dk_at dksX0_layRopes_2 13 rfl rfl)
theorem dX0_layRopes_61 : decode cX0_layRopes 61 = .ok (.iaload, 1) := dk_46 (dk_at dksX0_layRopes_2 14 rfl rfl)
theorem dX0_layRopes_62 : decode cX0_layRopes 62 = .ok (.ldc_w 467, 3) := dk_19 1 211 (dk_at dksX0_layRopes_2 15 rfl rfl)
theorem dX0_layRopes_65 : decode cX0_layRopes 65 = .ok (.if_icmp .eq 34, 3) := dk_159 0 34 (dk_at dksX0_layRopes_2 18 rfl rfl)
theorem dX0_layRopes_68 : decode cX0_layRopes 68 = .ok (.aload_n 0, 1) := dk_42 (dk_at dksX0_layRopes_2 21 rfl rfl)
theorem dX0_layRopes_69 : decode cX0_layRopes 69 = .ok (.getfield 192, 3) := dk_180 0 192 (dk_at dksX0_layRopes_3 0 rfl rfl)
theorem dX0_layRopes_72 : decode cX0_layRopes 72 = .ok (.iload_n 3, 1) := dk_29 (dk_at dksX0_layRopes_3 3 rfl rfl)
theorem dX0_layRopes_73 : decode cX0_layRopes 73 = .ok (.aload_n 0, 1) := dk_42 (dk_at dksX0_layRopes_3 4 rfl rfl)
theorem dX0_layRopes_74 : decode cX0_layRopes 74 = .ok (.getfield 192, 3) := dk_180 0 192 (dk_at dksX0_layRopes_3 5 rfl rfl)
theorem dX0_layRopes_77 : decode cX0_layRopes 77 = .ok (.iload_n 3, 1) := dk_29 (dk_at dksX0_layRopes_3 8 rfl rfl)
theorem dX0_layRopes_78 : decode cX0_layRopes 78 = .ok (.iaload, 1) := dk_46 (dk_at dksX0_layRopes_3 9 rfl rfl)
theorem dX0_layRopes_79 : decode cX0_layRopes 79 = .ok (.aload_n 0, 1) := dk_42 (dk_at dksX0_layRopes_3 10 rfl rfl)
theorem dX0_layRopes_80 : decode cX0_layRopes 80 = .ok (.iload 4, 2) := dk_21 4 (dk_at dksX0_layRopes_3 11 rfl rfl)
theorem dX0_layRopes_82 : decode cX0_layRopes 82 = .ok (.invokevirtual 471, 3) := dk_182 1 215 (dk_at dksX0_layRopes_3 13 rfl rfl)
theorem dX0_layRopes_85 : decode cX0_layRopes 85 = .ok (.aload_n 0, 1) := dk_42 (dk_at dksX0_layRopes_3 16 rfl rfl)
theorem dX0_layRopes_86 : decode cX0_layRopes 86 = .ok (.getfield 192, 3) := dk_180 0 192 (dk_at dksX0_layRopes_3 17 rfl rfl)
theorem dX0_layRopes_89 : decode cX0_layRopes 89 = .ok (.iload_n 3, 1) := dk_29 (dk_at dksX0_layRopes_3 20 rfl rfl)
theorem dX0_layRopes_90 : decode cX0_layRopes 90 = .ok (.iload 4, 2) := dk_21 4 (dk_at dksX0_layRopes_3 21 rfl rfl)
theorem dX0_layRopes_92 : decode cX0_layRopes 92 = .ok (.ior, 1) := dk_128 (dk_at dksX0_layRopes_3 23 rfl rfl)
theorem dX0_layRopes_93 : decode cX0_layRopes 93 = .ok (.iaload, 1) := dk_46 (dk_at dksX0_layRopes_4 0 rfl rfl)
theorem dX0_layRopes_94 : decode cX0_layRopes 94 = .ok (.iadd, 1) := dk_96 (dk_at dksX0_layRopes_4 1 rfl rfl)
theorem dX0_layRopes_95 : decode cX0_layRopes 95 = .ok (.invokestatic 283, 3) := dk_184 1 27 (dk_at dksX0_layRopes_4 2 rfl rfl)
theorem dX0_layRopes_98 : decode cX0_layRopes 98 = .ok (.iastore, 1) := dk_79 (dk_at dksX0_layRopes_4 5 rfl rfl)
theorem dX0_layRopes_99 : decode cX0_layRopes 99 = .ok (.iinc 4 1, 3) := dk_132 4 1 (dk_at dksX0_layRopes_4 6 rfl rfl)
theorem dX0_layRopes_102 : decode cX0_layRopes 102 = .ok (.goto (-66), 3) := dk_167 255 190 (dk_at dksX0_layRopes_4 9 rfl rfl)
theorem dX0_layRopes_105 : decode cX0_layRopes 105 = .ok (.iinc 3 (-1), 3) := dk_132 3 255 (dk_at dksX0_layRopes_4 12 rfl rfl)
theorem dX0_layRopes_108 : decode cX0_layRopes 108 = .ok (.goto (-88), 3) := dk_167 255 168 (dk_at dksX0_layRopes_4 15 rfl rfl)
theorem dX0_layRopes_111 : decode cX0_layRopes 111 = .ok (.return_, 1) := dk_177 (dk_at dksX0_layRopes_4 18 rfl rfl)
abbrev cX0_canRope : ByteArray := prog_1_method_62_code
def yX0_canRope : MethodName := ⟨RX0, "canRope", "(III)Z"⟩
def dkwX0_canRope_2 : List UInt8 := [42, 28, 182, 1, 208, 29, 161, 0, 7, 4, 167, 0, 4, 3, 172]
abbrev dktX0_canRope_2 : List UInt8 := dkwX0_canRope_2 ++ []
def dkwX0_canRope_1 : List UInt8 := [184, 1, 202, 126, 153, 0, 33, 28, 184, 1, 205, 133, 20, 0, 240, 20, 0, 238, 184, 0, 9, 153, 0, 16]
abbrev dktX0_canRope_1 : List UInt8 := dkwX0_canRope_1 ++ dktX0_canRope_2
def dkwX0_canRope_0 : List UInt8 := [4, 42, 180, 1, 194, 120, 4, 100, 27, 2, 130, 126, 54, 4, 28, 27, 126, 154, 0, 43, 28, 21, 4]
abbrev dktX0_canRope_0 : List UInt8 := dkwX0_canRope_0 ++ dktX0_canRope_1
theorem dksX0_canRope_0 : cX0_canRope.data.toList.drop 0 = dktX0_canRope_0 := by decide +kernel
theorem dksX0_canRope_1 : cX0_canRope.data.toList.drop 23 = dktX0_canRope_1 := dk_seg dksX0_canRope_0 23 rfl rfl
theorem dksX0_canRope_2 : cX0_canRope.data.toList.drop 47 = dktX0_canRope_2 := dk_seg dksX0_canRope_1 24 rfl rfl
theorem dX0_canRope_0 : decode cX0_canRope 0 = .ok (.iconst 1, 1) := dk_4 (dk_at dksX0_canRope_0 0 rfl rfl)
theorem dX0_canRope_1 : decode cX0_canRope 1 = .ok (.aload_n 0, 1) := dk_42 (dk_at dksX0_canRope_0 1 rfl rfl)
theorem dX0_canRope_2 : decode cX0_canRope 2 = .ok (.getfield 450, 3) := dk_180 1 194 (dk_at dksX0_canRope_0 2 rfl rfl)
theorem dX0_canRope_5 : decode cX0_canRope 5 = .ok (.ishl, 1) := dk_120 (dk_at dksX0_canRope_0 5 rfl rfl)
theorem dX0_canRope_6 : decode cX0_canRope 6 = .ok (.iconst 1, 1) := dk_4 (dk_at dksX0_canRope_0 6 rfl rfl)
theorem dX0_canRope_7 : decode cX0_canRope 7 = .ok (.isub, 1) := dk_100 (dk_at dksX0_canRope_0 7 rfl rfl)
theorem dX0_canRope_8 : decode cX0_canRope 8 = .ok (.iload_n 1, 1) := dk_27 (dk_at dksX0_canRope_0 8 rfl rfl)
theorem dX0_canRope_9 : decode cX0_canRope 9 = .ok (.iconst (-1), 1) := dk_2 (dk_at dksX0_canRope_0 9 rfl rfl)
theorem dX0_canRope_10 : decode cX0_canRope 10 = .ok (.ixor, 1) := dk_130 (dk_at dksX0_canRope_0 10 rfl rfl)
theorem dX0_canRope_11 : decode cX0_canRope 11 = .ok (.iand, 1) := dk_126 (dk_at dksX0_canRope_0 11 rfl rfl)
theorem dX0_canRope_12 : decode cX0_canRope 12 = .ok (.istore 4, 2) := dk_54 4 (dk_at dksX0_canRope_0 12 rfl rfl)
theorem dX0_canRope_14 : decode cX0_canRope 14 = .ok (.iload_n 2, 1) := dk_28 (dk_at dksX0_canRope_0 14 rfl rfl)
theorem dX0_canRope_15 : decode cX0_canRope 15 = .ok (.iload_n 1, 1) := dk_27 (dk_at dksX0_canRope_0 15 rfl rfl)
theorem dX0_canRope_16 : decode cX0_canRope 16 = .ok (.iand, 1) := dk_126 (dk_at dksX0_canRope_0 16 rfl rfl)
theorem dX0_canRope_17 : decode cX0_canRope 17 = .ok (.ifCond .ne 43, 3) := dk_154 0 43 (dk_at dksX0_canRope_0 17 rfl rfl)
theorem dX0_canRope_20 : decode cX0_canRope 20 = .ok (.iload_n 2, 1) := dk_28 (dk_at dksX0_canRope_0 20 rfl rfl)
theorem dX0_canRope_21 : decode cX0_canRope 21 = .ok (.iload 4, 2) := dk_21 4 (dk_at dksX0_canRope_0 21 rfl rfl)
theorem dX0_canRope_23 : decode cX0_canRope 23 = .ok (.invokestatic 458, 3) := dk_184 1 202 (dk_at dksX0_canRope_1 0 rfl rfl)
theorem dX0_canRope_26 : decode cX0_canRope 26 = .ok (.iand, 1) := dk_126 (dk_at dksX0_canRope_1 3 rfl rfl)
theorem dX0_canRope_27 : decode cX0_canRope 27 = .ok (.ifCond .eq 33, 3) := dk_153 0 33 (dk_at dksX0_canRope_1 4 rfl rfl)
theorem dX0_canRope_30 : decode cX0_canRope 30 = .ok (.iload_n 2, 1) := dk_28 (dk_at dksX0_canRope_1 7 rfl rfl)
theorem dX0_canRope_31 : decode cX0_canRope 31 = .ok (.invokestatic 461, 3) := dk_184 1 205 (dk_at dksX0_canRope_1 8 rfl rfl)
theorem dX0_canRope_34 : decode cX0_canRope 34 = .ok (.i2l, 1) := dk_133 (dk_at dksX0_canRope_1 11 rfl rfl)
theorem dX0_canRope_35 : decode cX0_canRope 35 = .ok (.ldc2_w 240, 3) := dk_20 0 240 (dk_at dksX0_canRope_1 12 rfl rfl)
theorem dX0_canRope_38 : decode cX0_canRope 38 = .ok (.ldc2_w 238, 3) := dk_20 0 238 (dk_at dksX0_canRope_1 15 rfl rfl)
theorem dX0_canRope_41 : decode cX0_canRope 41 = .ok (.invokestatic 9, 3) := dk_184 0 9 (dk_at dksX0_canRope_1 18 rfl rfl)
theorem dX0_canRope_44 : decode cX0_canRope 44 = .ok (.ifCond .eq 16, 3) := dk_153 0 16 (dk_at dksX0_canRope_1 21 rfl rfl)
theorem dX0_canRope_47 : decode cX0_canRope 47 = .ok (.aload_n 0, 1) := dk_42 (dk_at dksX0_canRope_2 0 rfl rfl)
theorem dX0_canRope_48 : decode cX0_canRope 48 = .ok (.iload_n 2, 1) := dk_28 (dk_at dksX0_canRope_2 1 rfl rfl)
theorem dX0_canRope_49 : decode cX0_canRope 49 = .ok (.invokevirtual 464, 3) := dk_182 1 208 (dk_at dksX0_canRope_2 2 rfl rfl)
theorem dX0_canRope_52 : decode cX0_canRope 52 = .ok (.iload_n 3, 1) := dk_29 (dk_at dksX0_canRope_2 5 rfl rfl)
theorem dX0_canRope_53 : decode cX0_canRope 53 = .ok (.if_icmp .lt 7, 3) := dk_161 0 7 (dk_at dksX0_canRope_2 6 rfl rfl)
theorem dX0_canRope_56 : decode cX0_canRope 56 = .ok (.iconst 1, 1) := dk_4 (dk_at dksX0_canRope_2 9 rfl rfl)
theorem dX0_canRope_57 : decode cX0_canRope 57 = .ok (.goto 4, 3) := dk_167 0 4 (dk_at dksX0_canRope_2 10 rfl rfl)
theorem dX0_canRope_60 : decode cX0_canRope 60 = .ok (.iconst 0, 1) := dk_3 (dk_at dksX0_canRope_2 13 rfl rfl)
theorem dX0_canRope_61 : decode cX0_canRope 61 = .ok (.ireturn, 1) := dk_172 (dk_at dksX0_canRope_2 14 rfl rfl)
abbrev cX0_strengthOf : ByteArray := prog_1_method_60_code
def yX0_strengthOf : MethodName := ⟨RX0, "strengthOf", "(I)I"⟩
def dkwX0_strengthOf_1 : List UInt8 := [104, 96, 61, 132, 3, 1, 167, 255, 230, 28, 172]
abbrev dktX0_strengthOf_1 : List UInt8 := dkwX0_strengthOf_1 ++ []
def dkwX0_strengthOf_0 : List UInt8 := [3, 61, 3, 62, 29, 42, 180, 1, 194, 162, 0, 24, 28, 27, 29, 122, 4, 126, 42, 180, 0, 186, 29, 46]
abbrev dktX0_strengthOf_0 : List UInt8 := dkwX0_strengthOf_0 ++ dktX0_strengthOf_1
theorem dksX0_strengthOf_0 : cX0_strengthOf.data.toList.drop 0 = dktX0_strengthOf_0 := by decide +kernel
theorem dksX0_strengthOf_1 : cX0_strengthOf.data.toList.drop 24 = dktX0_strengthOf_1 := dk_seg dksX0_strengthOf_0 24 rfl rfl
theorem dX0_strengthOf_0 : decode cX0_strengthOf 0 = .ok (.iconst 0, 1) := dk_3 (dk_at dksX0_strengthOf_0 0 rfl rfl)
theorem dX0_strengthOf_1 : decode cX0_strengthOf 1 = .ok (.istore_n 2, 1) := dk_61 (dk_at dksX0_strengthOf_0 1 rfl rfl)
theorem dX0_strengthOf_2 : decode cX0_strengthOf 2 = .ok (.iconst 0, 1) := dk_3 (dk_at dksX0_strengthOf_0 2 rfl rfl)
theorem dX0_strengthOf_3 : decode cX0_strengthOf 3 = .ok (.istore_n 3, 1) := dk_62 (dk_at dksX0_strengthOf_0 3 rfl rfl)
theorem dX0_strengthOf_4 : decode cX0_strengthOf 4 = .ok (.iload_n 3, 1) := dk_29 (dk_at dksX0_strengthOf_0 4 rfl rfl)
theorem dX0_strengthOf_5 : decode cX0_strengthOf 5 = .ok (.aload_n 0, 1) := dk_42 (dk_at dksX0_strengthOf_0 5 rfl rfl)
theorem dX0_strengthOf_6 : decode cX0_strengthOf 6 = .ok (.getfield 450, 3) := dk_180 1 194 (dk_at dksX0_strengthOf_0 6 rfl rfl)
theorem dX0_strengthOf_9 : decode cX0_strengthOf 9 = .ok (.if_icmp .ge 24, 3) := dk_162 0 24 (dk_at dksX0_strengthOf_0 9 rfl rfl)
theorem dX0_strengthOf_12 : decode cX0_strengthOf 12 = .ok (.iload_n 2, 1) := dk_28 (dk_at dksX0_strengthOf_0 12 rfl rfl)
theorem dX0_strengthOf_13 : decode cX0_strengthOf 13 = .ok (.iload_n 1, 1) := dk_27 (dk_at dksX0_strengthOf_0 13 rfl rfl)
theorem dX0_strengthOf_14 : decode cX0_strengthOf 14 = .ok (.iload_n 3, 1) := dk_29 (dk_at dksX0_strengthOf_0 14 rfl rfl)
theorem dX0_strengthOf_15 : decode cX0_strengthOf 15 = .ok (.ishr, 1) := dk_122 (dk_at dksX0_strengthOf_0 15 rfl rfl)
theorem dX0_strengthOf_16 : decode cX0_strengthOf 16 = .ok (.iconst 1, 1) := dk_4 (dk_at dksX0_strengthOf_0 16 rfl rfl)
theorem dX0_strengthOf_17 : decode cX0_strengthOf 17 = .ok (.iand, 1) := dk_126 (dk_at dksX0_strengthOf_0 17 rfl rfl)
theorem dX0_strengthOf_18 : decode cX0_strengthOf 18 = .ok (.aload_n 0, 1) := dk_42 (dk_at dksX0_strengthOf_0 18 rfl rfl)
theorem dX0_strengthOf_19 : decode cX0_strengthOf 19 = .ok (.getfield 186, 3) := dk_180 0 186 (dk_at dksX0_strengthOf_0 19 rfl rfl)
theorem dX0_strengthOf_22 : decode cX0_strengthOf 22 = .ok (.iload_n 3, 1) := dk_29 (dk_at dksX0_strengthOf_0 22 rfl rfl)
theorem dX0_strengthOf_23 : decode cX0_strengthOf 23 = .ok (.iaload, 1) := dk_46 (dk_at dksX0_strengthOf_0 23 rfl rfl)
theorem dX0_strengthOf_24 : decode cX0_strengthOf 24 = .ok (.imul, 1) := dk_104 (dk_at dksX0_strengthOf_1 0 rfl rfl)
theorem dX0_strengthOf_25 : decode cX0_strengthOf 25 = .ok (.iadd, 1) := dk_96 (dk_at dksX0_strengthOf_1 1 rfl rfl)
theorem dX0_strengthOf_26 : decode cX0_strengthOf 26 = .ok (.istore_n 2, 1) := dk_61 (dk_at dksX0_strengthOf_1 2 rfl rfl)
theorem dX0_strengthOf_27 : decode cX0_strengthOf 27 = .ok (.iinc 3 1, 3) := dk_132 3 1 (dk_at dksX0_strengthOf_1 3 rfl rfl)
theorem dX0_strengthOf_30 : decode cX0_strengthOf 30 = .ok (.goto (-26), 3) := dk_167 255 230 (dk_at dksX0_strengthOf_1 6 rfl rfl)
theorem dX0_strengthOf_33 : decode cX0_strengthOf 33 = .ok (.iload_n 2, 1) := dk_28 (dk_at dksX0_strengthOf_1 9 rfl rfl)
theorem dX0_strengthOf_34 : decode cX0_strengthOf 34 = .ok (.ireturn, 1) := dk_172 (dk_at dksX0_strengthOf_1 10 rfl rfl)
abbrev cX0_worthOf : ByteArray := prog_1_method_61_code
def yX0_worthOf : MethodName := ⟨RX0, "worthOf", "(I)I"⟩
def dkwX0_worthOf_3 : List UInt8 := [172]
abbrev dktX0_worthOf_3 : List UInt8 := dkwX0_worthOf_3 ++ []
def dkwX0_worthOf_2 : List UInt8 := [29, 50, 21, 4, 46, 167, 0, 4, 3, 96, 61, 132, 4, 1, 167, 255, 209, 132, 3, 1, 167, 255, 192, 28]
abbrev dktX0_worthOf_2 : List UInt8 := dkwX0_worthOf_2 ++ dktX0_worthOf_3
def dkwX0_worthOf_1 : List UInt8 := [28, 27, 29, 122, 4, 126, 4, 160, 0, 25, 27, 21, 4, 122, 4, 126, 4, 160, 0, 15, 42, 180, 0, 189]
abbrev dktX0_worthOf_1 : List UInt8 := dkwX0_worthOf_1 ++ dktX0_worthOf_2
def dkwX0_worthOf_0 : List UInt8 := [3, 61, 3, 62, 29, 42, 180, 1, 194, 162, 0, 62, 3, 54, 4, 21, 4, 42, 180, 1, 194, 162, 0, 44]
abbrev dktX0_worthOf_0 : List UInt8 := dkwX0_worthOf_0 ++ dktX0_worthOf_1
theorem dksX0_worthOf_0 : cX0_worthOf.data.toList.drop 0 = dktX0_worthOf_0 := by decide +kernel
theorem dksX0_worthOf_1 : cX0_worthOf.data.toList.drop 24 = dktX0_worthOf_1 := dk_seg dksX0_worthOf_0 24 rfl rfl
theorem dksX0_worthOf_2 : cX0_worthOf.data.toList.drop 48 = dktX0_worthOf_2 := dk_seg dksX0_worthOf_1 24 rfl rfl
theorem dksX0_worthOf_3 : cX0_worthOf.data.toList.drop 72 = dktX0_worthOf_3 := dk_seg dksX0_worthOf_2 24 rfl rfl
theorem dX0_worthOf_0 : decode cX0_worthOf 0 = .ok (.iconst 0, 1) := dk_3 (dk_at dksX0_worthOf_0 0 rfl rfl)
theorem dX0_worthOf_1 : decode cX0_worthOf 1 = .ok (.istore_n 2, 1) := dk_61 (dk_at dksX0_worthOf_0 1 rfl rfl)
theorem dX0_worthOf_2 : decode cX0_worthOf 2 = .ok (.iconst 0, 1) := dk_3 (dk_at dksX0_worthOf_0 2 rfl rfl)
theorem dX0_worthOf_3 : decode cX0_worthOf 3 = .ok (.istore_n 3, 1) := dk_62 (dk_at dksX0_worthOf_0 3 rfl rfl)
theorem dX0_worthOf_4 : decode cX0_worthOf 4 = .ok (.iload_n 3, 1) := dk_29 (dk_at dksX0_worthOf_0 4 rfl rfl)
theorem dX0_worthOf_5 : decode cX0_worthOf 5 = .ok (.aload_n 0, 1) := dk_42 (dk_at dksX0_worthOf_0 5 rfl rfl)
theorem dX0_worthOf_6 : decode cX0_worthOf 6 = .ok (.getfield 450, 3) := dk_180 1 194 (dk_at dksX0_worthOf_0 6 rfl rfl)
theorem dX0_worthOf_9 : decode cX0_worthOf 9 = .ok (.if_icmp .ge 62, 3) := dk_162 0 62 (dk_at dksX0_worthOf_0 9 rfl rfl)
theorem dX0_worthOf_12 : decode cX0_worthOf 12 = .ok (.iconst 0, 1) := dk_3 (dk_at dksX0_worthOf_0 12 rfl rfl)
theorem dX0_worthOf_13 : decode cX0_worthOf 13 = .ok (.istore 4, 2) := dk_54 4 (dk_at dksX0_worthOf_0 13 rfl rfl)
theorem dX0_worthOf_15 : decode cX0_worthOf 15 = .ok (.iload 4, 2) := dk_21 4 (dk_at dksX0_worthOf_0 15 rfl rfl)
theorem dX0_worthOf_17 : decode cX0_worthOf 17 = .ok (.aload_n 0, 1) := dk_42 (dk_at dksX0_worthOf_0 17 rfl rfl)
theorem dX0_worthOf_18 : decode cX0_worthOf 18 = .ok (.getfield 450, 3) := dk_180 1 194 (dk_at dksX0_worthOf_0 18 rfl rfl)
theorem dX0_worthOf_21 : decode cX0_worthOf 21 = .ok (.if_icmp .ge 44, 3) := dk_162 0 44 (dk_at dksX0_worthOf_0 21 rfl rfl)
theorem dX0_worthOf_24 : decode cX0_worthOf 24 = .ok (.iload_n 2, 1) := dk_28 (dk_at dksX0_worthOf_1 0 rfl rfl)
theorem dX0_worthOf_25 : decode cX0_worthOf 25 = .ok (.iload_n 1, 1) := dk_27 (dk_at dksX0_worthOf_1 1 rfl rfl)
theorem dX0_worthOf_26 : decode cX0_worthOf 26 = .ok (.iload_n 3, 1) := dk_29 (dk_at dksX0_worthOf_1 2 rfl rfl)
theorem dX0_worthOf_27 : decode cX0_worthOf 27 = .ok (.ishr, 1) := dk_122 (dk_at dksX0_worthOf_1 3 rfl rfl)
theorem dX0_worthOf_28 : decode cX0_worthOf 28 = .ok (.iconst 1, 1) := dk_4 (dk_at dksX0_worthOf_1 4 rfl rfl)
theorem dX0_worthOf_29 : decode cX0_worthOf 29 = .ok (.iand, 1) := dk_126 (dk_at dksX0_worthOf_1 5 rfl rfl)
theorem dX0_worthOf_30 : decode cX0_worthOf 30 = .ok (.iconst 1, 1) := dk_4 (dk_at dksX0_worthOf_1 6 rfl rfl)
theorem dX0_worthOf_31 : decode cX0_worthOf 31 = .ok (.if_icmp .ne 25, 3) := dk_160 0 25 (dk_at dksX0_worthOf_1 7 rfl rfl)
theorem dX0_worthOf_34 : decode cX0_worthOf 34 = .ok (.iload_n 1, 1) := dk_27 (dk_at dksX0_worthOf_1 10 rfl rfl)
theorem dX0_worthOf_35 : decode cX0_worthOf 35 = .ok (.iload 4, 2) := dk_21 4 (dk_at dksX0_worthOf_1 11 rfl rfl)
theorem dX0_worthOf_37 : decode cX0_worthOf 37 = .ok (.ishr, 1) := dk_122 (dk_at dksX0_worthOf_1 13 rfl rfl)
theorem dX0_worthOf_38 : decode cX0_worthOf 38 = .ok (.iconst 1, 1) := dk_4 (dk_at dksX0_worthOf_1 14 rfl rfl)
theorem dX0_worthOf_39 : decode cX0_worthOf 39 = .ok (.iand, 1) := dk_126 (dk_at dksX0_worthOf_1 15 rfl rfl)
theorem dX0_worthOf_40 : decode cX0_worthOf 40 = .ok (.iconst 1, 1) := dk_4 (dk_at dksX0_worthOf_1 16 rfl rfl)
theorem dX0_worthOf_41 : decode cX0_worthOf 41 = .ok (.if_icmp .ne 15, 3) := dk_160 0 15 (dk_at dksX0_worthOf_1 17 rfl rfl)
theorem dX0_worthOf_44 : decode cX0_worthOf 44 = .ok (.aload_n 0, 1) := dk_42 (dk_at dksX0_worthOf_1 20 rfl rfl)
theorem dX0_worthOf_45 : decode cX0_worthOf 45 = .ok (.getfield 189, 3) := dk_180 0 189 (dk_at dksX0_worthOf_1 21 rfl rfl)
theorem dX0_worthOf_48 : decode cX0_worthOf 48 = .ok (.iload_n 3, 1) := dk_29 (dk_at dksX0_worthOf_2 0 rfl rfl)
theorem dX0_worthOf_49 : decode cX0_worthOf 49 = .ok (.aaload, 1) := dk_50 (dk_at dksX0_worthOf_2 1 rfl rfl)
theorem dX0_worthOf_50 : decode cX0_worthOf 50 = .ok (.iload 4, 2) := dk_21 4 (dk_at dksX0_worthOf_2 2 rfl rfl)
theorem dX0_worthOf_52 : decode cX0_worthOf 52 = .ok (.iaload, 1) := dk_46 (dk_at dksX0_worthOf_2 4 rfl rfl)
theorem dX0_worthOf_53 : decode cX0_worthOf 53 = .ok (.goto 4, 3) := dk_167 0 4 (dk_at dksX0_worthOf_2 5 rfl rfl)
theorem dX0_worthOf_56 : decode cX0_worthOf 56 = .ok (.iconst 0, 1) := dk_3 (dk_at dksX0_worthOf_2 8 rfl rfl)
theorem dX0_worthOf_57 : decode cX0_worthOf 57 = .ok (.iadd, 1) := dk_96 (dk_at dksX0_worthOf_2 9 rfl rfl)
theorem dX0_worthOf_58 : decode cX0_worthOf 58 = .ok (.istore_n 2, 1) := dk_61 (dk_at dksX0_worthOf_2 10 rfl rfl)
theorem dX0_worthOf_59 : decode cX0_worthOf 59 = .ok (.iinc 4 1, 3) := dk_132 4 1 (dk_at dksX0_worthOf_2 11 rfl rfl)
theorem dX0_worthOf_62 : decode cX0_worthOf 62 = .ok (.goto (-47), 3) := dk_167 255 209 (dk_at dksX0_worthOf_2 14 rfl rfl)
theorem dX0_worthOf_65 : decode cX0_worthOf 65 = .ok (.iinc 3 1, 3) := dk_132 3 1 (dk_at dksX0_worthOf_2 17 rfl rfl)
theorem dX0_worthOf_68 : decode cX0_worthOf 68 = .ok (.goto (-64), 3) := dk_167 255 192 (dk_at dksX0_worthOf_2 20 rfl rfl)
theorem dX0_worthOf_71 : decode cX0_worthOf 71 = .ok (.iload_n 2, 1) := dk_28 (dk_at dksX0_worthOf_2 23 rfl rfl)
theorem dX0_worthOf_72 : decode cX0_worthOf 72 = .ok (.ireturn, 1) := dk_172 (dk_at dksX0_worthOf_3 0 rfl rfl)
abbrev cX0_rope : ByteArray := prog_1_method_66_code
def yX0_rope : MethodName := ⟨RX0, "rope", "(IIII)I"⟩
def dkwX0_rope_3 : List UInt8 := [183, 1, 226, 83, 42, 89, 180, 1, 223, 4, 96, 181, 1, 223, 42, 180, 1, 223, 4, 100, 172]
abbrev dktX0_rope_3 : List UInt8 := dkwX0_rope_3 ++ []
def dkwX0_rope_2 : List UInt8 := [172, 42, 180, 0, 197, 42, 180, 1, 223, 187, 0, 195, 89, 42, 180, 0, 86, 27, 50, 28, 29, 21, 4]
abbrev dktX0_rope_2 : List UInt8 := dkwX0_rope_2 ++ dktX0_rope_3
def dkwX0_rope_1 : List UInt8 := [133, 10, 20, 0, 21, 184, 0, 9, 154, 0, 5, 2, 172, 42, 180, 1, 223, 16, 8, 160, 0, 6, 16, 253]
abbrev dktX0_rope_1 : List UInt8 := dkwX0_rope_1 ++ dktX0_rope_2
def dkwX0_rope_0 : List UInt8 := [42, 27, 182, 0, 104, 153, 0, 30, 28, 184, 1, 52, 153, 0, 23, 29, 184, 1, 55, 153, 0, 16, 21, 4]
abbrev dktX0_rope_0 : List UInt8 := dkwX0_rope_0 ++ dktX0_rope_1
theorem dksX0_rope_0 : cX0_rope.data.toList.drop 0 = dktX0_rope_0 := by decide +kernel
theorem dksX0_rope_1 : cX0_rope.data.toList.drop 24 = dktX0_rope_1 := dk_seg dksX0_rope_0 24 rfl rfl
theorem dksX0_rope_2 : cX0_rope.data.toList.drop 48 = dktX0_rope_2 := dk_seg dksX0_rope_1 24 rfl rfl
theorem dksX0_rope_3 : cX0_rope.data.toList.drop 71 = dktX0_rope_3 := dk_seg dksX0_rope_2 23 rfl rfl
theorem dX0_rope_0 : decode cX0_rope 0 = .ok (.aload_n 0, 1) := dk_42 (dk_at dksX0_rope_0 0 rfl rfl)
theorem dX0_rope_1 : decode cX0_rope 1 = .ok (.iload_n 1, 1) := dk_27 (dk_at dksX0_rope_0 1 rfl rfl)
theorem dX0_rope_2 : decode cX0_rope 2 = .ok (.invokevirtual 104, 3) := dk_182 0 104 (dk_at dksX0_rope_0 2 rfl rfl)
theorem dX0_rope_5 : decode cX0_rope 5 = .ok (.ifCond .eq 30, 3) := dk_153 0 30 (dk_at dksX0_rope_0 5 rfl rfl)
theorem dX0_rope_8 : decode cX0_rope 8 = .ok (.iload_n 2, 1) := dk_28 (dk_at dksX0_rope_0 8 rfl rfl)
theorem dX0_rope_9 : decode cX0_rope 9 = .ok (.invokestatic 308, 3) := dk_184 1 52 (dk_at dksX0_rope_0 9 rfl rfl)
theorem dX0_rope_12 : decode cX0_rope 12 = .ok (.ifCond .eq 23, 3) := dk_153 0 23 (dk_at dksX0_rope_0 12 rfl rfl)
theorem dX0_rope_15 : decode cX0_rope 15 = .ok (.iload_n 3, 1) := dk_29 (dk_at dksX0_rope_0 15 rfl rfl)
theorem dX0_rope_16 : decode cX0_rope 16 = .ok (.invokestatic 311, 3) := dk_184 1 55 (dk_at dksX0_rope_0 16 rfl rfl)
theorem dX0_rope_19 : decode cX0_rope 19 = .ok (.ifCond .eq 16, 3) := dk_153 0 16 (dk_at dksX0_rope_0 19 rfl rfl)
theorem dX0_rope_22 : decode cX0_rope 22 = .ok (.iload 4, 2) := dk_21 4 (dk_at dksX0_rope_0 22 rfl rfl)
theorem dX0_rope_24 : decode cX0_rope 24 = .ok (.i2l, 1) := dk_133 (dk_at dksX0_rope_1 0 rfl rfl)
theorem dX0_rope_25 : decode cX0_rope 25 = .ok (.lconst 1, 1) := dk_10 (dk_at dksX0_rope_1 1 rfl rfl)
theorem dX0_rope_26 : decode cX0_rope 26 = .ok (.ldc2_w 21, 3) := dk_20 0 21 (dk_at dksX0_rope_1 2 rfl rfl)
theorem dX0_rope_29 : decode cX0_rope 29 = .ok (.invokestatic 9, 3) := dk_184 0 9 (dk_at dksX0_rope_1 5 rfl rfl)
theorem dX0_rope_32 : decode cX0_rope 32 = .ok (.ifCond .ne 5, 3) := dk_154 0 5 (dk_at dksX0_rope_1 8 rfl rfl)
theorem dX0_rope_35 : decode cX0_rope 35 = .ok (.iconst (-1), 1) := dk_2 (dk_at dksX0_rope_1 11 rfl rfl)
theorem dX0_rope_36 : decode cX0_rope 36 = .ok (.ireturn, 1) := dk_172 (dk_at dksX0_rope_1 12 rfl rfl)
theorem dX0_rope_37 : decode cX0_rope 37 = .ok (.aload_n 0, 1) := dk_42 (dk_at dksX0_rope_1 13 rfl rfl)
theorem dX0_rope_38 : decode cX0_rope 38 = .ok (.getfield 479, 3) := dk_180 1 223 (dk_at dksX0_rope_1 14 rfl rfl)
theorem dX0_rope_41 : decode cX0_rope 41 = .ok (.bipush 8, 2) := dk_16 8 (dk_at dksX0_rope_1 17 rfl rfl)
theorem dX0_rope_43 : decode cX0_rope 43 = .ok (.if_icmp .ne 6, 3) := dk_160 0 6 (dk_at dksX0_rope_1 19 rfl rfl)
theorem dX0_rope_46 : decode cX0_rope 46 = .ok (.bipush (-3), 2) := dk_16 253 (dk_at dksX0_rope_1 22 rfl rfl)
theorem dX0_rope_48 : decode cX0_rope 48 = .ok (.ireturn, 1) := dk_172 (dk_at dksX0_rope_2 0 rfl rfl)
theorem dX0_rope_49 : decode cX0_rope 49 = .ok (.aload_n 0, 1) := dk_42 (dk_at dksX0_rope_2 1 rfl rfl)
theorem dX0_rope_50 : decode cX0_rope 50 = .ok (.getfield 197, 3) := dk_180 0 197 (dk_at dksX0_rope_2 2 rfl rfl)
theorem dX0_rope_53 : decode cX0_rope 53 = .ok (.aload_n 0, 1) := dk_42 (dk_at dksX0_rope_2 5 rfl rfl)
theorem dX0_rope_54 : decode cX0_rope 54 = .ok (.getfield 479, 3) := dk_180 1 223 (dk_at dksX0_rope_2 6 rfl rfl)
theorem dX0_rope_57 : decode cX0_rope 57 = .ok (.new 195, 3) := dk_187 0 195 (dk_at dksX0_rope_2 9 rfl rfl)
theorem dX0_rope_60 : decode cX0_rope 60 = .ok (.dup, 1) := dk_89 (dk_at dksX0_rope_2 12 rfl rfl)
theorem dX0_rope_61 : decode cX0_rope 61 = .ok (.aload_n 0, 1) := dk_42 (dk_at dksX0_rope_2 13 rfl rfl)
theorem dX0_rope_62 : decode cX0_rope 62 = .ok (.getfield 86, 3) := dk_180 0 86 (dk_at dksX0_rope_2 14 rfl rfl)
theorem dX0_rope_65 : decode cX0_rope 65 = .ok (.iload_n 1, 1) := dk_27 (dk_at dksX0_rope_2 17 rfl rfl)
theorem dX0_rope_66 : decode cX0_rope 66 = .ok (.aaload, 1) := dk_50 (dk_at dksX0_rope_2 18 rfl rfl)
theorem dX0_rope_67 : decode cX0_rope 67 = .ok (.iload_n 2, 1) := dk_28 (dk_at dksX0_rope_2 19 rfl rfl)
theorem dX0_rope_68 : decode cX0_rope 68 = .ok (.iload_n 3, 1) := dk_29 (dk_at dksX0_rope_2 20 rfl rfl)
theorem dX0_rope_69 : decode cX0_rope 69 = .ok (.iload 4, 2) := dk_21 4 (dk_at dksX0_rope_2 21 rfl rfl)
theorem dX0_rope_71 : decode cX0_rope 71 = .ok (.invokespecial 482, 3) := dk_183 1 226 (dk_at dksX0_rope_3 0 rfl rfl)
theorem dX0_rope_74 : decode cX0_rope 74 = .ok (.aastore, 1) := dk_83 (dk_at dksX0_rope_3 3 rfl rfl)
theorem dX0_rope_75 : decode cX0_rope 75 = .ok (.aload_n 0, 1) := dk_42 (dk_at dksX0_rope_3 4 rfl rfl)
theorem dX0_rope_76 : decode cX0_rope 76 = .ok (.dup, 1) := dk_89 (dk_at dksX0_rope_3 5 rfl rfl)
theorem dX0_rope_77 : decode cX0_rope 77 = .ok (.getfield 479, 3) := dk_180 1 223 (dk_at dksX0_rope_3 6 rfl rfl)
theorem dX0_rope_80 : decode cX0_rope 80 = .ok (.iconst 1, 1) := dk_4 (dk_at dksX0_rope_3 9 rfl rfl)
theorem dX0_rope_81 : decode cX0_rope 81 = .ok (.iadd, 1) := dk_96 (dk_at dksX0_rope_3 10 rfl rfl)
theorem dX0_rope_82 : decode cX0_rope 82 = .ok (.putfield 479, 3) := dk_181 1 223 (dk_at dksX0_rope_3 11 rfl rfl)
theorem dX0_rope_85 : decode cX0_rope 85 = .ok (.aload_n 0, 1) := dk_42 (dk_at dksX0_rope_3 14 rfl rfl)
theorem dX0_rope_86 : decode cX0_rope 86 = .ok (.getfield 479, 3) := dk_180 1 223 (dk_at dksX0_rope_3 15 rfl rfl)
theorem dX0_rope_89 : decode cX0_rope 89 = .ok (.iconst 1, 1) := dk_4 (dk_at dksX0_rope_3 18 rfl rfl)
theorem dX0_rope_90 : decode cX0_rope 90 = .ok (.isub, 1) := dk_100 (dk_at dksX0_rope_3 19 rfl rfl)
theorem dX0_rope_91 : decode cX0_rope 91 = .ok (.ireturn, 1) := dk_172 (dk_at dksX0_rope_3 20 rfl rfl)
abbrev cX0_unrope : ByteArray := prog_1_method_67_code
def yX0_unrope : MethodName := ⟨RX0, "unrope", "()I"⟩
def dkwX0_unrope_1 : List UInt8 := [172]
abbrev dktX0_unrope_1 : List UInt8 := dkwX0_unrope_1 ++ []
def dkwX0_unrope_0 : List UInt8 := [42, 180, 1, 223, 154, 0, 6, 16, 252, 172, 42, 89, 180, 1, 223, 4, 100, 181, 1, 223, 42, 180, 1, 223]
abbrev dktX0_unrope_0 : List UInt8 := dkwX0_unrope_0 ++ dktX0_unrope_1
theorem dksX0_unrope_0 : cX0_unrope.data.toList.drop 0 = dktX0_unrope_0 := by decide +kernel
theorem dksX0_unrope_1 : cX0_unrope.data.toList.drop 24 = dktX0_unrope_1 := dk_seg dksX0_unrope_0 24 rfl rfl
theorem dX0_unrope_0 : decode cX0_unrope 0 = .ok (.aload_n 0, 1) := dk_42 (dk_at dksX0_unrope_0 0 rfl rfl)
theorem dX0_unrope_1 : decode cX0_unrope 1 = .ok (.getfield 479, 3) := dk_180 1 223 (dk_at dksX0_unrope_0 1 rfl rfl)
theorem dX0_unrope_4 : decode cX0_unrope 4 = .ok (.ifCond .ne 6, 3) := dk_154 0 6 (dk_at dksX0_unrope_0 4 rfl rfl)
theorem dX0_unrope_7 : decode cX0_unrope 7 = .ok (.bipush (-4), 2) := dk_16 252 (dk_at dksX0_unrope_0 7 rfl rfl)
theorem dX0_unrope_9 : decode cX0_unrope 9 = .ok (.ireturn, 1) := dk_172 (dk_at dksX0_unrope_0 9 rfl rfl)
theorem dX0_unrope_10 : decode cX0_unrope 10 = .ok (.aload_n 0, 1) := dk_42 (dk_at dksX0_unrope_0 10 rfl rfl)
theorem dX0_unrope_11 : decode cX0_unrope 11 = .ok (.dup, 1) := dk_89 (dk_at dksX0_unrope_0 11 rfl rfl)
theorem dX0_unrope_12 : decode cX0_unrope 12 = .ok (.getfield 479, 3) := dk_180 1 223 (dk_at dksX0_unrope_0 12 rfl rfl)
theorem dX0_unrope_15 : decode cX0_unrope 15 = .ok (.iconst 1, 1) := dk_4 (dk_at dksX0_unrope_0 15 rfl rfl)
theorem dX0_unrope_16 : decode cX0_unrope 16 = .ok (.isub, 1) := dk_100 (dk_at dksX0_unrope_0 16 rfl rfl)
theorem dX0_unrope_17 : decode cX0_unrope 17 = .ok (.putfield 479, 3) := dk_181 1 223 (dk_at dksX0_unrope_0 17 rfl rfl)
theorem dX0_unrope_20 : decode cX0_unrope 20 = .ok (.aload_n 0, 1) := dk_42 (dk_at dksX0_unrope_0 20 rfl rfl)
theorem dX0_unrope_21 : decode cX0_unrope 21 = .ok (.getfield 479, 3) := dk_180 1 223 (dk_at dksX0_unrope_0 21 rfl rfl)
theorem dX0_unrope_24 : decode cX0_unrope 24 = .ok (.ireturn, 1) := dk_172 (dk_at dksX0_unrope_1 0 rfl rfl)
abbrev cX0_went : ByteArray := prog_1_method_73_code
def yX0_went : MethodName := ⟨RX0, "went", "(II)I"⟩
def dkwX0_went_5 : List UInt8 := [172, 2, 172]
abbrev dktX0_went_5 : List UInt8 := dkwX0_went_5 ++ []
def dkwX0_went_4 : List UInt8 := [167, 0, 4, 3, 172, 45, 180, 2, 13, 172, 45, 180, 1, 250, 172, 45, 180, 1, 240, 172, 45, 180, 1, 239]
abbrev dktX0_went_4 : List UInt8 := dkwX0_went_4 ++ dktX0_went_5
def dkwX0_went_3 : List UInt8 := [16, 252, 160, 0, 8, 16, 251, 167, 0, 7, 45, 180, 1, 246, 172, 45, 180, 2, 6, 153, 0, 7, 4]
abbrev dktX0_went_3 : List UInt8 := dkwX0_went_3 ++ dktX0_went_4
def dkwX0_went_2 : List UInt8 := [45, 180, 1, 246, 16, 252, 160, 0, 8, 16, 251, 167, 0, 7, 45, 180, 1, 239, 172, 45, 180, 1, 246]
abbrev dktX0_went_2 : List UInt8 := dkwX0_went_2 ++ dktX0_went_3
def dkwX0_went_1 : List UInt8 := [170, 0, 0, 0, 0, 113, 0, 0, 0, 0, 0, 0, 0, 6, 0, 0, 0, 42, 0, 0, 0, 61, 0, 0, 0, 80, 0, 0, 0, 93, 0, 0, 0, 98, 0, 0, 0, 103, 0, 0, 0, 108]
abbrev dktX0_went_1 : List UInt8 := dkwX0_went_1 ++ dktX0_went_2
def dkwX0_went_0 : List UInt8 := [42, 27, 182, 2, 32, 154, 0, 5, 2, 172, 42, 182, 2, 35, 42, 180, 0, 197, 27, 50, 78, 28]
abbrev dktX0_went_0 : List UInt8 := dkwX0_went_0 ++ dktX0_went_1
theorem dksX0_went_0 : cX0_went.data.toList.drop 0 = dktX0_went_0 := by decide +kernel
theorem dksX0_went_1 : cX0_went.data.toList.drop 22 = dktX0_went_1 := dk_seg dksX0_went_0 22 rfl rfl
theorem dksX0_went_2 : cX0_went.data.toList.drop 64 = dktX0_went_2 := dk_seg dksX0_went_1 42 rfl rfl
theorem dksX0_went_3 : cX0_went.data.toList.drop 87 = dktX0_went_3 := dk_seg dksX0_went_2 23 rfl rfl
theorem dksX0_went_4 : cX0_went.data.toList.drop 110 = dktX0_went_4 := dk_seg dksX0_went_3 23 rfl rfl
theorem dksX0_went_5 : cX0_went.data.toList.drop 134 = dktX0_went_5 := dk_seg dksX0_went_4 24 rfl rfl
theorem dX0_went_0 : decode cX0_went 0 = .ok (.aload_n 0, 1) := dk_42 (dk_at dksX0_went_0 0 rfl rfl)
theorem dX0_went_1 : decode cX0_went 1 = .ok (.iload_n 1, 1) := dk_27 (dk_at dksX0_went_0 1 rfl rfl)
theorem dX0_went_2 : decode cX0_went 2 = .ok (.invokevirtual 544, 3) := dk_182 2 32 (dk_at dksX0_went_0 2 rfl rfl)
theorem dX0_went_5 : decode cX0_went 5 = .ok (.ifCond .ne 5, 3) := dk_154 0 5 (dk_at dksX0_went_0 5 rfl rfl)
theorem dX0_went_8 : decode cX0_went 8 = .ok (.iconst (-1), 1) := dk_2 (dk_at dksX0_went_0 8 rfl rfl)
theorem dX0_went_9 : decode cX0_went 9 = .ok (.ireturn, 1) := dk_172 (dk_at dksX0_went_0 9 rfl rfl)
theorem dX0_went_10 : decode cX0_went 10 = .ok (.aload_n 0, 1) := dk_42 (dk_at dksX0_went_0 10 rfl rfl)
theorem dX0_went_11 : decode cX0_went 11 = .ok (.invokevirtual 547, 3) := dk_182 2 35 (dk_at dksX0_went_0 11 rfl rfl)
theorem dX0_went_14 : decode cX0_went 14 = .ok (.aload_n 0, 1) := dk_42 (dk_at dksX0_went_0 14 rfl rfl)
theorem dX0_went_15 : decode cX0_went 15 = .ok (.getfield 197, 3) := dk_180 0 197 (dk_at dksX0_went_0 15 rfl rfl)
theorem dX0_went_18 : decode cX0_went 18 = .ok (.iload_n 1, 1) := dk_27 (dk_at dksX0_went_0 18 rfl rfl)
theorem dX0_went_19 : decode cX0_went 19 = .ok (.aaload, 1) := dk_50 (dk_at dksX0_went_0 19 rfl rfl)
theorem dX0_went_20 : decode cX0_went 20 = .ok (.astore_n 3, 1) := dk_78 (dk_at dksX0_went_0 20 rfl rfl)
theorem dX0_went_21 : decode cX0_went 21 = .ok (.iload_n 2, 1) := dk_28 (dk_at dksX0_went_0 21 rfl rfl)
theorem dX0_went_22 : decode cX0_went 22 = .ok (.tableswitch 113 0 6 #[42, 61, 80, 93, 98, 103, 108], 42) := by decide +kernel
theorem dX0_went_64 : decode cX0_went 64 = .ok (.aload_n 3, 1) := dk_45 (dk_at dksX0_went_2 0 rfl rfl)
theorem dX0_went_65 : decode cX0_went 65 = .ok (.getfield 502, 3) := dk_180 1 246 (dk_at dksX0_went_2 1 rfl rfl)
theorem dX0_went_68 : decode cX0_went 68 = .ok (.bipush (-4), 2) := dk_16 252 (dk_at dksX0_went_2 4 rfl rfl)
theorem dX0_went_70 : decode cX0_went 70 = .ok (.if_icmp .ne 8, 3) := dk_160 0 8 (dk_at dksX0_went_2 6 rfl rfl)
theorem dX0_went_73 : decode cX0_went 73 = .ok (.bipush (-5), 2) := dk_16 251 (dk_at dksX0_went_2 9 rfl rfl)
theorem dX0_went_75 : decode cX0_went 75 = .ok (.goto 7, 3) := dk_167 0 7 (dk_at dksX0_went_2 11 rfl rfl)
theorem dX0_went_78 : decode cX0_went 78 = .ok (.aload_n 3, 1) := dk_45 (dk_at dksX0_went_2 14 rfl rfl)
theorem dX0_went_79 : decode cX0_went 79 = .ok (.getfield 495, 3) := dk_180 1 239 (dk_at dksX0_went_2 15 rfl rfl)
theorem dX0_went_82 : decode cX0_went 82 = .ok (.ireturn, 1) := dk_172 (dk_at dksX0_went_2 18 rfl rfl)
theorem dX0_went_83 : decode cX0_went 83 = .ok (.aload_n 3, 1) := dk_45 (dk_at dksX0_went_2 19 rfl rfl)
theorem dX0_went_84 : decode cX0_went 84 = .ok (.getfield 502, 3) := dk_180 1 246 (dk_at dksX0_went_2 20 rfl rfl)
theorem dX0_went_87 : decode cX0_went 87 = .ok (.bipush (-4), 2) := dk_16 252 (dk_at dksX0_went_3 0 rfl rfl)
theorem dX0_went_89 : decode cX0_went 89 = .ok (.if_icmp .ne 8, 3) := dk_160 0 8 (dk_at dksX0_went_3 2 rfl rfl)
theorem dX0_went_92 : decode cX0_went 92 = .ok (.bipush (-5), 2) := dk_16 251 (dk_at dksX0_went_3 5 rfl rfl)
theorem dX0_went_94 : decode cX0_went 94 = .ok (.goto 7, 3) := dk_167 0 7 (dk_at dksX0_went_3 7 rfl rfl)
theorem dX0_went_97 : decode cX0_went 97 = .ok (.aload_n 3, 1) := dk_45 (dk_at dksX0_went_3 10 rfl rfl)
theorem dX0_went_98 : decode cX0_went 98 = .ok (.getfield 502, 3) := dk_180 1 246 (dk_at dksX0_went_3 11 rfl rfl)
theorem dX0_went_101 : decode cX0_went 101 = .ok (.ireturn, 1) := dk_172 (dk_at dksX0_went_3 14 rfl rfl)
theorem dX0_went_102 : decode cX0_went 102 = .ok (.aload_n 3, 1) := dk_45 (dk_at dksX0_went_3 15 rfl rfl)
theorem dX0_went_103 : decode cX0_went 103 = .ok (.getfield 518, 3) := dk_180 2 6 (dk_at dksX0_went_3 16 rfl rfl)
theorem dX0_went_106 : decode cX0_went 106 = .ok (.ifCond .eq 7, 3) := dk_153 0 7 (dk_at dksX0_went_3 19 rfl rfl)
theorem dX0_went_109 : decode cX0_went 109 = .ok (.iconst 1, 1) := dk_4 (dk_at dksX0_went_3 22 rfl rfl)
theorem dX0_went_110 : decode cX0_went 110 = .ok (.goto 4, 3) := dk_167 0 4 (dk_at dksX0_went_4 0 rfl rfl)
theorem dX0_went_113 : decode cX0_went 113 = .ok (.iconst 0, 1) := dk_3 (dk_at dksX0_went_4 3 rfl rfl)
theorem dX0_went_114 : decode cX0_went 114 = .ok (.ireturn, 1) := dk_172 (dk_at dksX0_went_4 4 rfl rfl)
theorem dX0_went_115 : decode cX0_went 115 = .ok (.aload_n 3, 1) := dk_45 (dk_at dksX0_went_4 5 rfl rfl)
theorem dX0_went_116 : decode cX0_went 116 = .ok (.getfield 525, 3) := dk_180 2 13 (dk_at dksX0_went_4 6 rfl rfl)
theorem dX0_went_119 : decode cX0_went 119 = .ok (.ireturn, 1) := dk_172 (dk_at dksX0_went_4 9 rfl rfl)
theorem dX0_went_120 : decode cX0_went 120 = .ok (.aload_n 3, 1) := dk_45 (dk_at dksX0_went_4 10 rfl rfl)
theorem dX0_went_121 : decode cX0_went 121 = .ok (.getfield 506, 3) := dk_180 1 250 (dk_at dksX0_went_4 11 rfl rfl)
theorem dX0_went_124 : decode cX0_went 124 = .ok (.ireturn, 1) := dk_172 (dk_at dksX0_went_4 14 rfl rfl)
theorem dX0_went_125 : decode cX0_went 125 = .ok (.aload_n 3, 1) := dk_45 (dk_at dksX0_went_4 15 rfl rfl)
theorem dX0_went_126 : decode cX0_went 126 = .ok (.getfield 496, 3) := dk_180 1 240 (dk_at dksX0_went_4 16 rfl rfl)
theorem dX0_went_129 : decode cX0_went 129 = .ok (.ireturn, 1) := dk_172 (dk_at dksX0_went_4 19 rfl rfl)
theorem dX0_went_130 : decode cX0_went 130 = .ok (.aload_n 3, 1) := dk_45 (dk_at dksX0_went_4 20 rfl rfl)
theorem dX0_went_131 : decode cX0_went 131 = .ok (.getfield 495, 3) := dk_180 1 239 (dk_at dksX0_went_4 21 rfl rfl)
theorem dX0_went_134 : decode cX0_went 134 = .ok (.ireturn, 1) := dk_172 (dk_at dksX0_went_5 0 rfl rfl)
theorem dX0_went_135 : decode cX0_went 135 = .ok (.iconst (-1), 1) := dk_2 (dk_at dksX0_went_5 1 rfl rfl)
theorem dX0_went_136 : decode cX0_went 136 = .ok (.ireturn, 1) := dk_172 (dk_at dksX0_went_5 2 rfl rfl)
abbrev cX0_isRope : ByteArray := prog_1_method_65_code
def yX0_isRope : MethodName := ⟨RX0, "isRope", "(I)Z"⟩
def dkwX0_isRope_0 : List UInt8 := [27, 133, 9, 42, 180, 1, 223, 4, 100, 133, 184, 0, 9, 172]
abbrev dktX0_isRope_0 : List UInt8 := dkwX0_isRope_0 ++ []
theorem dksX0_isRope_0 : cX0_isRope.data.toList.drop 0 = dktX0_isRope_0 := by decide +kernel
theorem dX0_isRope_0 : decode cX0_isRope 0 = .ok (.iload_n 1, 1) := dk_27 (dk_at dksX0_isRope_0 0 rfl rfl)
theorem dX0_isRope_1 : decode cX0_isRope 1 = .ok (.i2l, 1) := dk_133 (dk_at dksX0_isRope_0 1 rfl rfl)
theorem dX0_isRope_2 : decode cX0_isRope 2 = .ok (.lconst 0, 1) := dk_9 (dk_at dksX0_isRope_0 2 rfl rfl)
theorem dX0_isRope_3 : decode cX0_isRope 3 = .ok (.aload_n 0, 1) := dk_42 (dk_at dksX0_isRope_0 3 rfl rfl)
theorem dX0_isRope_4 : decode cX0_isRope 4 = .ok (.getfield 479, 3) := dk_180 1 223 (dk_at dksX0_isRope_0 4 rfl rfl)
theorem dX0_isRope_7 : decode cX0_isRope 7 = .ok (.iconst 1, 1) := dk_4 (dk_at dksX0_isRope_0 7 rfl rfl)
theorem dX0_isRope_8 : decode cX0_isRope 8 = .ok (.isub, 1) := dk_100 (dk_at dksX0_isRope_0 8 rfl rfl)
theorem dX0_isRope_9 : decode cX0_isRope 9 = .ok (.i2l, 1) := dk_133 (dk_at dksX0_isRope_0 9 rfl rfl)
theorem dX0_isRope_10 : decode cX0_isRope 10 = .ok (.invokestatic 9, 3) := dk_184 0 9 (dk_at dksX0_isRope_0 10 rfl rfl)
theorem dX0_isRope_13 : decode cX0_isRope 13 = .ok (.ireturn, 1) := dk_172 (dk_at dksX0_isRope_0 13 rfl rfl)
abbrev cX0_play : ByteArray := prog_1_method_72_code
def yX0_play : MethodName := ⟨RX0, "play", "()V"⟩
def dkwX0_play_9 : List UInt8 := [132, 1, 1, 167, 255, 109, 177]
abbrev dktX0_play_9 : List UInt8 := dkwX0_play_9 ++ []
def dkwX0_play_8 : List UInt8 := [180, 1, 239, 167, 0, 14, 16, 100, 42, 45, 180, 1, 229, 182, 0, 129, 96, 79, 132, 2, 1, 167, 255, 193]
abbrev dktX0_play_8 : List UInt8 := dkwX0_play_8 ++ dktX0_play_9
def dkwX0_play_7 : List UInt8 := [27, 45, 180, 1, 243, 16, 252, 160, 0, 8, 16, 252, 167, 0, 28, 45, 180, 1, 229, 199, 0, 10, 45]
abbrev dktX0_play_7 : List UInt8 := dkwX0_play_7 ++ dktX0_play_8
def dkwX0_play_6 : List UInt8 := [167, 255, 196, 3, 61, 28, 42, 180, 1, 223, 162, 0, 61, 42, 180, 0, 197, 28, 50, 78, 45, 180, 2, 29]
abbrev dktX0_play_6 : List UInt8 := dkwX0_play_6 ++ dktX0_play_7
def dkwX0_play_5 : List UInt8 := [28, 160, 0, 14, 42, 42, 180, 0, 197, 29, 50, 27, 182, 2, 26, 132, 3, 1, 167, 255, 209, 132, 2, 1]
abbrev dktX0_play_5 : List UInt8 := dkwX0_play_5 ++ dktX0_play_6
def dkwX0_play_4 : List UInt8 := [162, 0, 45, 42, 180, 0, 197, 29, 50, 182, 2, 22, 153, 0, 27, 42, 180, 0, 197, 29, 50, 180, 1, 243]
abbrev dktX0_play_4 : List UInt8 := dkwX0_play_4 ++ dktX0_play_5
def dkwX0_play_3 : List UInt8 := [162, 0, 147, 42, 27, 182, 2, 19, 3, 61, 28, 27, 163, 0, 61, 3, 62, 29, 42, 180, 1, 223]
abbrev dktX0_play_3 : List UInt8 := dkwX0_play_3 ++ dktX0_play_4
def dkwX0_play_2 : List UInt8 := [162, 0, 18, 42, 180, 0, 197, 27, 50, 182, 2, 16, 132, 1, 1, 167, 255, 236, 3, 60, 27, 16, 96]
abbrev dktX0_play_2 : List UInt8 := dkwX0_play_2 ++ dktX0_play_3
def dkwX0_play_1 : List UInt8 := [3, 79, 42, 180, 0, 207, 27, 3, 79, 132, 1, 1, 167, 255, 226, 3, 60, 27, 42, 180, 1, 223]
abbrev dktX0_play_1 : List UInt8 := dkwX0_play_1 ++ dktX0_play_2
def dkwX0_play_0 : List UInt8 := [42, 182, 1, 58, 3, 60, 27, 16, 12, 162, 0, 30, 42, 180, 0, 201, 27, 3, 79, 42, 180, 0, 204, 27]
abbrev dktX0_play_0 : List UInt8 := dkwX0_play_0 ++ dktX0_play_1
theorem dksX0_play_0 : cX0_play.data.toList.drop 0 = dktX0_play_0 := by decide +kernel
theorem dksX0_play_1 : cX0_play.data.toList.drop 24 = dktX0_play_1 := dk_seg dksX0_play_0 24 rfl rfl
theorem dksX0_play_2 : cX0_play.data.toList.drop 46 = dktX0_play_2 := dk_seg dksX0_play_1 22 rfl rfl
theorem dksX0_play_3 : cX0_play.data.toList.drop 69 = dktX0_play_3 := dk_seg dksX0_play_2 23 rfl rfl
theorem dksX0_play_4 : cX0_play.data.toList.drop 91 = dktX0_play_4 := dk_seg dksX0_play_3 22 rfl rfl
theorem dksX0_play_5 : cX0_play.data.toList.drop 115 = dktX0_play_5 := dk_seg dksX0_play_4 24 rfl rfl
theorem dksX0_play_6 : cX0_play.data.toList.drop 139 = dktX0_play_6 := dk_seg dksX0_play_5 24 rfl rfl
theorem dksX0_play_7 : cX0_play.data.toList.drop 163 = dktX0_play_7 := dk_seg dksX0_play_6 24 rfl rfl
theorem dksX0_play_8 : cX0_play.data.toList.drop 186 = dktX0_play_8 := dk_seg dksX0_play_7 23 rfl rfl
theorem dksX0_play_9 : cX0_play.data.toList.drop 210 = dktX0_play_9 := dk_seg dksX0_play_8 24 rfl rfl
theorem dX0_play_0 : decode cX0_play 0 = .ok (.aload_n 0, 1) := dk_42 (dk_at dksX0_play_0 0 rfl rfl)
theorem dX0_play_1 : decode cX0_play 1 = .ok (.invokevirtual 314, 3) := dk_182 1 58 (dk_at dksX0_play_0 1 rfl rfl)
theorem dX0_play_4 : decode cX0_play 4 = .ok (.iconst 0, 1) := dk_3 (dk_at dksX0_play_0 4 rfl rfl)
theorem dX0_play_5 : decode cX0_play 5 = .ok (.istore_n 1, 1) := dk_60 (dk_at dksX0_play_0 5 rfl rfl)
theorem dX0_play_6 : decode cX0_play 6 = .ok (.iload_n 1, 1) := dk_27 (dk_at dksX0_play_0 6 rfl rfl)
theorem dX0_play_7 : decode cX0_play 7 = .ok (.bipush 12, 2) := dk_16 12 (dk_at dksX0_play_0 7 rfl rfl)
theorem dX0_play_9 : decode cX0_play 9 = .ok (.if_icmp .ge 30, 3) := dk_162 0 30 (dk_at dksX0_play_0 9 rfl rfl)
theorem dX0_play_12 : decode cX0_play 12 = .ok (.aload_n 0, 1) := dk_42 (dk_at dksX0_play_0 12 rfl rfl)
theorem dX0_play_13 : decode cX0_play 13 = .ok (.getfield 201, 3) := dk_180 0 201 (dk_at dksX0_play_0 13 rfl rfl)
theorem dX0_play_16 : decode cX0_play 16 = .ok (.iload_n 1, 1) := dk_27 (dk_at dksX0_play_0 16 rfl rfl)
theorem dX0_play_17 : decode cX0_play 17 = .ok (.iconst 0, 1) := dk_3 (dk_at dksX0_play_0 17 rfl rfl)
theorem dX0_play_18 : decode cX0_play 18 = .ok (.iastore, 1) := dk_79 (dk_at dksX0_play_0 18 rfl rfl)
theorem dX0_play_19 : decode cX0_play 19 = .ok (.aload_n 0, 1) := dk_42 (dk_at dksX0_play_0 19 rfl rfl)
theorem dX0_play_20 : decode cX0_play 20 = .ok (.getfield 204, 3) := dk_180 0 204 (dk_at dksX0_play_0 20 rfl rfl)
theorem dX0_play_23 : decode cX0_play 23 = .ok (.iload_n 1, 1) := dk_27 (dk_at dksX0_play_0 23 rfl rfl)
theorem dX0_play_24 : decode cX0_play 24 = .ok (.iconst 0, 1) := dk_3 (dk_at dksX0_play_1 0 rfl rfl)
theorem dX0_play_25 : decode cX0_play 25 = .ok (.iastore, 1) := dk_79 (dk_at dksX0_play_1 1 rfl rfl)
theorem dX0_play_26 : decode cX0_play 26 = .ok (.aload_n 0, 1) := dk_42 (dk_at dksX0_play_1 2 rfl rfl)
theorem dX0_play_27 : decode cX0_play 27 = .ok (.getfield 207, 3) := dk_180 0 207 (dk_at dksX0_play_1 3 rfl rfl)
theorem dX0_play_30 : decode cX0_play 30 = .ok (.iload_n 1, 1) := dk_27 (dk_at dksX0_play_1 6 rfl rfl)
theorem dX0_play_31 : decode cX0_play 31 = .ok (.iconst 0, 1) := dk_3 (dk_at dksX0_play_1 7 rfl rfl)
theorem dX0_play_32 : decode cX0_play 32 = .ok (.iastore, 1) := dk_79 (dk_at dksX0_play_1 8 rfl rfl)
theorem dX0_play_33 : decode cX0_play 33 = .ok (.iinc 1 1, 3) := dk_132 1 1 (dk_at dksX0_play_1 9 rfl rfl)
theorem dX0_play_36 : decode cX0_play 36 = .ok (.goto (-30), 3) := dk_167 255 226 (dk_at dksX0_play_1 12 rfl rfl)
theorem dX0_play_39 : decode cX0_play 39 = .ok (.iconst 0, 1) := dk_3 (dk_at dksX0_play_1 15 rfl rfl)
theorem dX0_play_40 : decode cX0_play 40 = .ok (.istore_n 1, 1) := dk_60 (dk_at dksX0_play_1 16 rfl rfl)
theorem dX0_play_41 : decode cX0_play 41 = .ok (.iload_n 1, 1) := dk_27 (dk_at dksX0_play_1 17 rfl rfl)
theorem dX0_play_42 : decode cX0_play 42 = .ok (.aload_n 0, 1) := dk_42 (dk_at dksX0_play_1 18 rfl rfl)
theorem dX0_play_43 : decode cX0_play 43 = .ok (.getfield 479, 3) := dk_180 1 223 (dk_at dksX0_play_1 19 rfl rfl)
theorem dX0_play_46 : decode cX0_play 46 = .ok (.if_icmp .ge 18, 3) := dk_162 0 18 (dk_at dksX0_play_2 0 rfl rfl)
theorem dX0_play_49 : decode cX0_play 49 = .ok (.aload_n 0, 1) := dk_42 (dk_at dksX0_play_2 3 rfl rfl)
theorem dX0_play_50 : decode cX0_play 50 = .ok (.getfield 197, 3) := dk_180 0 197 (dk_at dksX0_play_2 4 rfl rfl)
theorem dX0_play_53 : decode cX0_play 53 = .ok (.iload_n 1, 1) := dk_27 (dk_at dksX0_play_2 7 rfl rfl)
theorem dX0_play_54 : decode cX0_play 54 = .ok (.aaload, 1) := dk_50 (dk_at dksX0_play_2 8 rfl rfl)
theorem dX0_play_55 : decode cX0_play 55 = .ok (.invokevirtual 528, 3) := dk_182 2 16 (dk_at dksX0_play_2 9 rfl rfl)
theorem dX0_play_58 : decode cX0_play 58 = .ok (.iinc 1 1, 3) := dk_132 1 1 (dk_at dksX0_play_2 12 rfl rfl)
theorem dX0_play_61 : decode cX0_play 61 = .ok (.goto (-20), 3) := dk_167 255 236 (dk_at dksX0_play_2 15 rfl rfl)
theorem dX0_play_64 : decode cX0_play 64 = .ok (.iconst 0, 1) := dk_3 (dk_at dksX0_play_2 18 rfl rfl)
theorem dX0_play_65 : decode cX0_play 65 = .ok (.istore_n 1, 1) := dk_60 (dk_at dksX0_play_2 19 rfl rfl)
theorem dX0_play_66 : decode cX0_play 66 = .ok (.iload_n 1, 1) := dk_27 (dk_at dksX0_play_2 20 rfl rfl)
theorem dX0_play_67 : decode cX0_play 67 = .ok (.bipush 96, 2) := dk_16 96 (dk_at dksX0_play_2 21 rfl rfl)
theorem dX0_play_69 : decode cX0_play 69 = .ok (.if_icmp .ge 147, 3) := dk_162 0 147 (dk_at dksX0_play_3 0 rfl rfl)
theorem dX0_play_72 : decode cX0_play 72 = .ok (.aload_n 0, 1) := dk_42 (dk_at dksX0_play_3 3 rfl rfl)
theorem dX0_play_73 : decode cX0_play 73 = .ok (.iload_n 1, 1) := dk_27 (dk_at dksX0_play_3 4 rfl rfl)
theorem dX0_play_74 : decode cX0_play 74 = .ok (.invokevirtual 531, 3) := dk_182 2 19 (dk_at dksX0_play_3 5 rfl rfl)
theorem dX0_play_77 : decode cX0_play 77 = .ok (.iconst 0, 1) := dk_3 (dk_at dksX0_play_3 8 rfl rfl)
theorem dX0_play_78 : decode cX0_play 78 = .ok (.istore_n 2, 1) := dk_61 (dk_at dksX0_play_3 9 rfl rfl)
theorem dX0_play_79 : decode cX0_play 79 = .ok (.iload_n 2, 1) := dk_28 (dk_at dksX0_play_3 10 rfl rfl)
theorem dX0_play_80 : decode cX0_play 80 = .ok (.iload_n 1, 1) := dk_27 (dk_at dksX0_play_3 11 rfl rfl)
theorem dX0_play_81 : decode cX0_play 81 = .ok (.if_icmp .gt 61, 3) := dk_163 0 61 (dk_at dksX0_play_3 12 rfl rfl)
theorem dX0_play_84 : decode cX0_play 84 = .ok (.iconst 0, 1) := dk_3 (dk_at dksX0_play_3 15 rfl rfl)
theorem dX0_play_85 : decode cX0_play 85 = .ok (.istore_n 3, 1) := dk_62 (dk_at dksX0_play_3 16 rfl rfl)
theorem dX0_play_86 : decode cX0_play 86 = .ok (.iload_n 3, 1) := dk_29 (dk_at dksX0_play_3 17 rfl rfl)
theorem dX0_play_87 : decode cX0_play 87 = .ok (.aload_n 0, 1) := dk_42 (dk_at dksX0_play_3 18 rfl rfl)
theorem dX0_play_88 : decode cX0_play 88 = .ok (.getfield 479, 3) := dk_180 1 223 (dk_at dksX0_play_3 19 rfl rfl)
theorem dX0_play_91 : decode cX0_play 91 = .ok (.if_icmp .ge 45, 3) := dk_162 0 45 (dk_at dksX0_play_4 0 rfl rfl)
theorem dX0_play_94 : decode cX0_play 94 = .ok (.aload_n 0, 1) := dk_42 (dk_at dksX0_play_4 3 rfl rfl)
theorem dX0_play_95 : decode cX0_play 95 = .ok (.getfield 197, 3) := dk_180 0 197 (dk_at dksX0_play_4 4 rfl rfl)
theorem dX0_play_98 : decode cX0_play 98 = .ok (.iload_n 3, 1) := dk_29 (dk_at dksX0_play_4 7 rfl rfl)
theorem dX0_play_99 : decode cX0_play 99 = .ok (.aaload, 1) := dk_50 (dk_at dksX0_play_4 8 rfl rfl)
theorem dX0_play_100 : decode cX0_play 100 = .ok (.invokevirtual 534, 3) := dk_182 2 22 (dk_at dksX0_play_4 9 rfl rfl)
theorem dX0_play_103 : decode cX0_play 103 = .ok (.ifCond .eq 27, 3) := dk_153 0 27 (dk_at dksX0_play_4 12 rfl rfl)
theorem dX0_play_106 : decode cX0_play 106 = .ok (.aload_n 0, 1) := dk_42 (dk_at dksX0_play_4 15 rfl rfl)
theorem dX0_play_107 : decode cX0_play 107 = .ok (.getfield 197, 3) := dk_180 0 197 (dk_at dksX0_play_4 16 rfl rfl)
theorem dX0_play_110 : decode cX0_play 110 = .ok (.iload_n 3, 1) := dk_29 (dk_at dksX0_play_4 19 rfl rfl)
theorem dX0_play_111 : decode cX0_play 111 = .ok (.aaload, 1) := dk_50 (dk_at dksX0_play_4 20 rfl rfl)
theorem dX0_play_112 : decode cX0_play 112 = .ok (.getfield 499, 3) := dk_180 1 243 (dk_at dksX0_play_4 21 rfl rfl)
theorem dX0_play_115 : decode cX0_play 115 = .ok (.iload_n 2, 1) := dk_28 (dk_at dksX0_play_5 0 rfl rfl)
theorem dX0_play_116 : decode cX0_play 116 = .ok (.if_icmp .ne 14, 3) := dk_160 0 14 (dk_at dksX0_play_5 1 rfl rfl)
theorem dX0_play_119 : decode cX0_play 119 = .ok (.aload_n 0, 1) := dk_42 (dk_at dksX0_play_5 4 rfl rfl)
theorem dX0_play_120 : decode cX0_play 120 = .ok (.aload_n 0, 1) := dk_42 (dk_at dksX0_play_5 5 rfl rfl)
theorem dX0_play_121 : decode cX0_play 121 = .ok (.getfield 197, 3) := dk_180 0 197 (dk_at dksX0_play_5 6 rfl rfl)
theorem dX0_play_124 : decode cX0_play 124 = .ok (.iload_n 3, 1) := dk_29 (dk_at dksX0_play_5 9 rfl rfl)
theorem dX0_play_125 : decode cX0_play 125 = .ok (.aaload, 1) := dk_50 (dk_at dksX0_play_5 10 rfl rfl)
theorem dX0_play_126 : decode cX0_play 126 = .ok (.iload_n 1, 1) := dk_27 (dk_at dksX0_play_5 11 rfl rfl)
theorem dX0_play_127 : decode cX0_play 127 = .ok (.invokevirtual 538, 3) := dk_182 2 26 (dk_at dksX0_play_5 12 rfl rfl)
theorem dX0_play_130 : decode cX0_play 130 = .ok (.iinc 3 1, 3) := dk_132 3 1 (dk_at dksX0_play_5 15 rfl rfl)
theorem dX0_play_133 : decode cX0_play 133 = .ok (.goto (-47), 3) := dk_167 255 209 (dk_at dksX0_play_5 18 rfl rfl)
theorem dX0_play_136 : decode cX0_play 136 = .ok (.iinc 2 1, 3) := dk_132 2 1 (dk_at dksX0_play_5 21 rfl rfl)
theorem dX0_play_139 : decode cX0_play 139 = .ok (.goto (-60), 3) := dk_167 255 196 (dk_at dksX0_play_6 0 rfl rfl)
theorem dX0_play_142 : decode cX0_play 142 = .ok (.iconst 0, 1) := dk_3 (dk_at dksX0_play_6 3 rfl rfl)
theorem dX0_play_143 : decode cX0_play 143 = .ok (.istore_n 2, 1) := dk_61 (dk_at dksX0_play_6 4 rfl rfl)
theorem dX0_play_144 : decode cX0_play 144 = .ok (.iload_n 2, 1) := dk_28 (dk_at dksX0_play_6 5 rfl rfl)
theorem dX0_play_145 : decode cX0_play 145 = .ok (.aload_n 0, 1) := dk_42 (dk_at dksX0_play_6 6 rfl rfl)
theorem dX0_play_146 : decode cX0_play 146 = .ok (.getfield 479, 3) := dk_180 1 223 (dk_at dksX0_play_6 7 rfl rfl)
theorem dX0_play_149 : decode cX0_play 149 = .ok (.if_icmp .ge 61, 3) := dk_162 0 61 (dk_at dksX0_play_6 10 rfl rfl)
theorem dX0_play_152 : decode cX0_play 152 = .ok (.aload_n 0, 1) := dk_42 (dk_at dksX0_play_6 13 rfl rfl)
theorem dX0_play_153 : decode cX0_play 153 = .ok (.getfield 197, 3) := dk_180 0 197 (dk_at dksX0_play_6 14 rfl rfl)
theorem dX0_play_156 : decode cX0_play 156 = .ok (.iload_n 2, 1) := dk_28 (dk_at dksX0_play_6 17 rfl rfl)
theorem dX0_play_157 : decode cX0_play 157 = .ok (.aaload, 1) := dk_50 (dk_at dksX0_play_6 18 rfl rfl)
theorem dX0_play_158 : decode cX0_play 158 = .ok (.astore_n 3, 1) := dk_78 (dk_at dksX0_play_6 19 rfl rfl)
theorem dX0_play_159 : decode cX0_play 159 = .ok (.aload_n 3, 1) := dk_45 (dk_at dksX0_play_6 20 rfl rfl)
theorem dX0_play_160 : decode cX0_play 160 = .ok (.getfield 541, 3) := dk_180 2 29 (dk_at dksX0_play_6 21 rfl rfl)
theorem dX0_play_163 : decode cX0_play 163 = .ok (.iload_n 1, 1) := dk_27 (dk_at dksX0_play_7 0 rfl rfl)
theorem dX0_play_164 : decode cX0_play 164 = .ok (.aload_n 3, 1) := dk_45 (dk_at dksX0_play_7 1 rfl rfl)
theorem dX0_play_165 : decode cX0_play 165 = .ok (.getfield 499, 3) := dk_180 1 243 (dk_at dksX0_play_7 2 rfl rfl)
theorem dX0_play_168 : decode cX0_play 168 = .ok (.bipush (-4), 2) := dk_16 252 (dk_at dksX0_play_7 5 rfl rfl)
theorem dX0_play_170 : decode cX0_play 170 = .ok (.if_icmp .ne 8, 3) := dk_160 0 8 (dk_at dksX0_play_7 7 rfl rfl)
theorem dX0_play_173 : decode cX0_play 173 = .ok (.bipush (-4), 2) := dk_16 252 (dk_at dksX0_play_7 10 rfl rfl)
theorem dX0_play_175 : decode cX0_play 175 = .ok (.goto 28, 3) := dk_167 0 28 (dk_at dksX0_play_7 12 rfl rfl)
theorem dX0_play_178 : decode cX0_play 178 = .ok (.aload_n 3, 1) := dk_45 (dk_at dksX0_play_7 15 rfl rfl)
theorem dX0_play_179 : decode cX0_play 179 = .ok (.getfield 485, 3) := dk_180 1 229 (dk_at dksX0_play_7 16 rfl rfl)
theorem dX0_play_182 : decode cX0_play 182 = .ok (.ifnonnull 10, 3) := dk_199 0 10 (dk_at dksX0_play_7 19 rfl rfl)
theorem dX0_play_185 : decode cX0_play 185 = .ok (.aload_n 3, 1) := dk_45 (dk_at dksX0_play_7 22 rfl rfl)
theorem dX0_play_186 : decode cX0_play 186 = .ok (.getfield 495, 3) := dk_180 1 239 (dk_at dksX0_play_8 0 rfl rfl)
theorem dX0_play_189 : decode cX0_play 189 = .ok (.goto 14, 3) := dk_167 0 14 (dk_at dksX0_play_8 3 rfl rfl)
theorem dX0_play_192 : decode cX0_play 192 = .ok (.bipush 100, 2) := dk_16 100 (dk_at dksX0_play_8 6 rfl rfl)
theorem dX0_play_194 : decode cX0_play 194 = .ok (.aload_n 0, 1) := dk_42 (dk_at dksX0_play_8 8 rfl rfl)
theorem dX0_play_195 : decode cX0_play 195 = .ok (.aload_n 3, 1) := dk_45 (dk_at dksX0_play_8 9 rfl rfl)
theorem dX0_play_196 : decode cX0_play 196 = .ok (.getfield 485, 3) := dk_180 1 229 (dk_at dksX0_play_8 10 rfl rfl)
theorem dX0_play_199 : decode cX0_play 199 = .ok (.invokevirtual 129, 3) := dk_182 0 129 (dk_at dksX0_play_8 13 rfl rfl)
theorem dX0_play_202 : decode cX0_play 202 = .ok (.iadd, 1) := dk_96 (dk_at dksX0_play_8 16 rfl rfl)
theorem dX0_play_203 : decode cX0_play 203 = .ok (.iastore, 1) := dk_79 (dk_at dksX0_play_8 17 rfl rfl)
theorem dX0_play_204 : decode cX0_play 204 = .ok (.iinc 2 1, 3) := dk_132 2 1 (dk_at dksX0_play_8 18 rfl rfl)
theorem dX0_play_207 : decode cX0_play 207 = .ok (.goto (-63), 3) := dk_167 255 193 (dk_at dksX0_play_8 21 rfl rfl)
theorem dX0_play_210 : decode cX0_play 210 = .ok (.iinc 1 1, 3) := dk_132 1 1 (dk_at dksX0_play_9 0 rfl rfl)
theorem dX0_play_213 : decode cX0_play 213 = .ok (.goto (-147), 3) := dk_167 255 109 (dk_at dksX0_play_9 3 rfl rfl)
theorem dX0_play_216 : decode cX0_play 216 = .ok (.return_, 1) := dk_177 (dk_at dksX0_play_9 6 rfl rfl)
abbrev cX0_arrive : ByteArray := prog_1_method_69_code
def yX0_arrive : MethodName := ⟨RX0, "arrive", "(I)V"⟩
def dkwX0_arrive_4 : List UInt8 := [180, 1, 239, 92, 46, 4, 96, 79, 132, 2, 1, 167, 255, 154, 177]
abbrev dktX0_arrive_4 : List UInt8 := dkwX0_arrive_4 ++ []
def dkwX0_arrive_3 : List UInt8 := [181, 1, 229, 45, 89, 180, 1, 240, 4, 96, 181, 1, 240, 45, 27, 181, 1, 243, 42, 180, 0, 207, 45]
abbrev dktX0_arrive_3 : List UInt8 := dkwX0_arrive_3 ++ dktX0_arrive_4
def dkwX0_arrive_2 : List UInt8 := [27, 160, 0, 52, 21, 4, 153, 0, 29, 45, 45, 180, 1, 229, 180, 0, 69, 181, 1, 239, 45, 1]
abbrev dktX0_arrive_2 : List UInt8 := dkwX0_arrive_2 ++ dktX0_arrive_3
def dkwX0_arrive_1 : List UInt8 := [45, 180, 1, 233, 27, 160, 0, 7, 4, 167, 0, 4, 3, 54, 4, 21, 4, 154, 0, 11, 45, 180, 1, 236]
abbrev dktX0_arrive_1 : List UInt8 := dkwX0_arrive_1 ++ dktX0_arrive_2
def dkwX0_arrive_0 : List UInt8 := [3, 61, 28, 42, 180, 1, 223, 162, 0, 100, 42, 180, 0, 197, 28, 50, 78, 45, 180, 1, 229, 198, 0, 15]
abbrev dktX0_arrive_0 : List UInt8 := dkwX0_arrive_0 ++ dktX0_arrive_1
theorem dksX0_arrive_0 : cX0_arrive.data.toList.drop 0 = dktX0_arrive_0 := by decide +kernel
theorem dksX0_arrive_1 : cX0_arrive.data.toList.drop 24 = dktX0_arrive_1 := dk_seg dksX0_arrive_0 24 rfl rfl
theorem dksX0_arrive_2 : cX0_arrive.data.toList.drop 48 = dktX0_arrive_2 := dk_seg dksX0_arrive_1 24 rfl rfl
theorem dksX0_arrive_3 : cX0_arrive.data.toList.drop 70 = dktX0_arrive_3 := dk_seg dksX0_arrive_2 22 rfl rfl
theorem dksX0_arrive_4 : cX0_arrive.data.toList.drop 93 = dktX0_arrive_4 := dk_seg dksX0_arrive_3 23 rfl rfl
theorem dX0_arrive_0 : decode cX0_arrive 0 = .ok (.iconst 0, 1) := dk_3 (dk_at dksX0_arrive_0 0 rfl rfl)
theorem dX0_arrive_1 : decode cX0_arrive 1 = .ok (.istore_n 2, 1) := dk_61 (dk_at dksX0_arrive_0 1 rfl rfl)
theorem dX0_arrive_2 : decode cX0_arrive 2 = .ok (.iload_n 2, 1) := dk_28 (dk_at dksX0_arrive_0 2 rfl rfl)
theorem dX0_arrive_3 : decode cX0_arrive 3 = .ok (.aload_n 0, 1) := dk_42 (dk_at dksX0_arrive_0 3 rfl rfl)
theorem dX0_arrive_4 : decode cX0_arrive 4 = .ok (.getfield 479, 3) := dk_180 1 223 (dk_at dksX0_arrive_0 4 rfl rfl)
theorem dX0_arrive_7 : decode cX0_arrive 7 = .ok (.if_icmp .ge 100, 3) := dk_162 0 100 (dk_at dksX0_arrive_0 7 rfl rfl)
theorem dX0_arrive_10 : decode cX0_arrive 10 = .ok (.aload_n 0, 1) := dk_42 (dk_at dksX0_arrive_0 10 rfl rfl)
theorem dX0_arrive_11 : decode cX0_arrive 11 = .ok (.getfield 197, 3) := dk_180 0 197 (dk_at dksX0_arrive_0 11 rfl rfl)
theorem dX0_arrive_14 : decode cX0_arrive 14 = .ok (.iload_n 2, 1) := dk_28 (dk_at dksX0_arrive_0 14 rfl rfl)
theorem dX0_arrive_15 : decode cX0_arrive 15 = .ok (.aaload, 1) := dk_50 (dk_at dksX0_arrive_0 15 rfl rfl)
theorem dX0_arrive_16 : decode cX0_arrive 16 = .ok (.astore_n 3, 1) := dk_78 (dk_at dksX0_arrive_0 16 rfl rfl)
theorem dX0_arrive_17 : decode cX0_arrive 17 = .ok (.aload_n 3, 1) := dk_45 (dk_at dksX0_arrive_0 17 rfl rfl)
theorem dX0_arrive_18 : decode cX0_arrive 18 = .ok (.getfield 485, 3) := dk_180 1 229 (dk_at dksX0_arrive_0 18 rfl rfl)
theorem dX0_arrive_21 : decode cX0_arrive 21 = .ok (.ifnull 15, 3) := dk_198 0 15 (dk_at dksX0_arrive_0 21 rfl rfl)
theorem dX0_arrive_24 : decode cX0_arrive 24 = .ok (.aload_n 3, 1) := dk_45 (dk_at dksX0_arrive_1 0 rfl rfl)
theorem dX0_arrive_25 : decode cX0_arrive 25 = .ok (.getfield 489, 3) := dk_180 1 233 (dk_at dksX0_arrive_1 1 rfl rfl)
theorem dX0_arrive_28 : decode cX0_arrive 28 = .ok (.iload_n 1, 1) := dk_27 (dk_at dksX0_arrive_1 4 rfl rfl)
theorem dX0_arrive_29 : decode cX0_arrive 29 = .ok (.if_icmp .ne 7, 3) := dk_160 0 7 (dk_at dksX0_arrive_1 5 rfl rfl)
theorem dX0_arrive_32 : decode cX0_arrive 32 = .ok (.iconst 1, 1) := dk_4 (dk_at dksX0_arrive_1 8 rfl rfl)
theorem dX0_arrive_33 : decode cX0_arrive 33 = .ok (.goto 4, 3) := dk_167 0 4 (dk_at dksX0_arrive_1 9 rfl rfl)
theorem dX0_arrive_36 : decode cX0_arrive 36 = .ok (.iconst 0, 1) := dk_3 (dk_at dksX0_arrive_1 12 rfl rfl)
theorem dX0_arrive_37 : decode cX0_arrive 37 = .ok (.istore 4, 2) := dk_54 4 (dk_at dksX0_arrive_1 13 rfl rfl)
theorem dX0_arrive_39 : decode cX0_arrive 39 = .ok (.iload 4, 2) := dk_21 4 (dk_at dksX0_arrive_1 15 rfl rfl)
theorem dX0_arrive_41 : decode cX0_arrive 41 = .ok (.ifCond .ne 11, 3) := dk_154 0 11 (dk_at dksX0_arrive_1 17 rfl rfl)
theorem dX0_arrive_44 : decode cX0_arrive 44 = .ok (.aload_n 3, 1) := dk_45 (dk_at dksX0_arrive_1 20 rfl rfl)
theorem dX0_arrive_45 : decode cX0_arrive 45 = .ok (.getfield 492, 3) := dk_180 1 236 (dk_at dksX0_arrive_1 21 rfl rfl)
theorem dX0_arrive_48 : decode cX0_arrive 48 = .ok (.iload_n 1, 1) := dk_27 (dk_at dksX0_arrive_2 0 rfl rfl)
theorem dX0_arrive_49 : decode cX0_arrive 49 = .ok (.if_icmp .ne 52, 3) := dk_160 0 52 (dk_at dksX0_arrive_2 1 rfl rfl)
theorem dX0_arrive_52 : decode cX0_arrive 52 = .ok (.iload 4, 2) := dk_21 4 (dk_at dksX0_arrive_2 4 rfl rfl)
theorem dX0_arrive_54 : decode cX0_arrive 54 = .ok (.ifCond .eq 29, 3) := dk_153 0 29 (dk_at dksX0_arrive_2 6 rfl rfl)
theorem dX0_arrive_57 : decode cX0_arrive 57 = .ok (.aload_n 3, 1) := dk_45 (dk_at dksX0_arrive_2 9 rfl rfl)
theorem dX0_arrive_58 : decode cX0_arrive 58 = .ok (.aload_n 3, 1) := dk_45 (dk_at dksX0_arrive_2 10 rfl rfl)
theorem dX0_arrive_59 : decode cX0_arrive 59 = .ok (.getfield 485, 3) := dk_180 1 229 (dk_at dksX0_arrive_2 11 rfl rfl)
theorem dX0_arrive_62 : decode cX0_arrive 62 = .ok (.getfield 69, 3) := dk_180 0 69 (dk_at dksX0_arrive_2 14 rfl rfl)
theorem dX0_arrive_65 : decode cX0_arrive 65 = .ok (.putfield 495, 3) := dk_181 1 239 (dk_at dksX0_arrive_2 17 rfl rfl)
theorem dX0_arrive_68 : decode cX0_arrive 68 = .ok (.aload_n 3, 1) := dk_45 (dk_at dksX0_arrive_2 20 rfl rfl)
theorem dX0_arrive_69 : decode cX0_arrive 69 = .ok (.aconst_null, 1) := dk_1 (dk_at dksX0_arrive_2 21 rfl rfl)
theorem dX0_arrive_70 : decode cX0_arrive 70 = .ok (.putfield 485, 3) := dk_181 1 229 (dk_at dksX0_arrive_3 0 rfl rfl)
theorem dX0_arrive_73 : decode cX0_arrive 73 = .ok (.aload_n 3, 1) := dk_45 (dk_at dksX0_arrive_3 3 rfl rfl)
theorem dX0_arrive_74 : decode cX0_arrive 74 = .ok (.dup, 1) := dk_89 (dk_at dksX0_arrive_3 4 rfl rfl)
theorem dX0_arrive_75 : decode cX0_arrive 75 = .ok (.getfield 496, 3) := dk_180 1 240 (dk_at dksX0_arrive_3 5 rfl rfl)
theorem dX0_arrive_78 : decode cX0_arrive 78 = .ok (.iconst 1, 1) := dk_4 (dk_at dksX0_arrive_3 8 rfl rfl)
theorem dX0_arrive_79 : decode cX0_arrive 79 = .ok (.iadd, 1) := dk_96 (dk_at dksX0_arrive_3 9 rfl rfl)
theorem dX0_arrive_80 : decode cX0_arrive 80 = .ok (.putfield 496, 3) := dk_181 1 240 (dk_at dksX0_arrive_3 10 rfl rfl)
theorem dX0_arrive_83 : decode cX0_arrive 83 = .ok (.aload_n 3, 1) := dk_45 (dk_at dksX0_arrive_3 13 rfl rfl)
theorem dX0_arrive_84 : decode cX0_arrive 84 = .ok (.iload_n 1, 1) := dk_27 (dk_at dksX0_arrive_3 14 rfl rfl)
theorem dX0_arrive_85 : decode cX0_arrive 85 = .ok (.putfield 499, 3) := dk_181 1 243 (dk_at dksX0_arrive_3 15 rfl rfl)
theorem dX0_arrive_88 : decode cX0_arrive 88 = .ok (.aload_n 0, 1) := dk_42 (dk_at dksX0_arrive_3 18 rfl rfl)
theorem dX0_arrive_89 : decode cX0_arrive 89 = .ok (.getfield 207, 3) := dk_180 0 207 (dk_at dksX0_arrive_3 19 rfl rfl)
theorem dX0_arrive_92 : decode cX0_arrive 92 = .ok (.aload_n 3, 1) := dk_45 (dk_at dksX0_arrive_3 22 rfl rfl)
theorem dX0_arrive_93 : decode cX0_arrive 93 = .ok (.getfield 495, 3) := dk_180 1 239 (dk_at dksX0_arrive_4 0 rfl rfl)
theorem dX0_arrive_96 : decode cX0_arrive 96 = .ok (.dup2, 1) := dk_92 (dk_at dksX0_arrive_4 3 rfl rfl)
theorem dX0_arrive_97 : decode cX0_arrive 97 = .ok (.iaload, 1) := dk_46 (dk_at dksX0_arrive_4 4 rfl rfl)
theorem dX0_arrive_98 : decode cX0_arrive 98 = .ok (.iconst 1, 1) := dk_4 (dk_at dksX0_arrive_4 5 rfl rfl)
theorem dX0_arrive_99 : decode cX0_arrive 99 = .ok (.iadd, 1) := dk_96 (dk_at dksX0_arrive_4 6 rfl rfl)
theorem dX0_arrive_100 : decode cX0_arrive 100 = .ok (.iastore, 1) := dk_79 (dk_at dksX0_arrive_4 7 rfl rfl)
theorem dX0_arrive_101 : decode cX0_arrive 101 = .ok (.iinc 2 1, 3) := dk_132 2 1 (dk_at dksX0_arrive_4 8 rfl rfl)
theorem dX0_arrive_104 : decode cX0_arrive 104 = .ok (.goto (-102), 3) := dk_167 255 154 (dk_at dksX0_arrive_4 11 rfl rfl)
theorem dX0_arrive_107 : decode cX0_arrive 107 = .ok (.return_, 1) := dk_177 (dk_at dksX0_arrive_4 14 rfl rfl)
abbrev cX0_decide : ByteArray := prog_1_method_71_code
def yX0_decide : MethodName := ⟨RX0, "decide", "(LValleyGuides$Rope;I)V"⟩
def dkwX0_decide_6 : List UInt8 := [21, 4, 96, 181, 1, 233, 177]
abbrev dktX0_decide_6 : List UInt8 := dkwX0_decide_6 ++ []
def dkwX0_decide_5 : List UInt8 := [153, 0, 16, 43, 89, 180, 2, 13, 4, 96, 181, 2, 13, 167, 0, 16, 43, 45, 181, 1, 229, 43, 28]
abbrev dktX0_decide_5 : List UInt8 := dkwX0_decide_5 ++ dktX0_decide_6
def dkwX0_decide_4 : List UInt8 := [181, 2, 6, 42, 43, 28, 182, 2, 1, 167, 0, 44, 45, 180, 0, 82, 153, 0, 24, 42, 45, 182, 2, 9]
abbrev dktX0_decide_4 : List UInt8 := dkwX0_decide_4 ++ dktX0_decide_5
def dkwX0_decide_3 : List UInt8 := [182, 1, 129, 21, 4, 16, 251, 159, 0, 13, 42, 6, 182, 1, 140, 16, 252, 159, 0, 17, 43, 4]
abbrev dktX0_decide_3 : List UInt8 := dkwX0_decide_3 ++ dktX0_decide_4
def dkwX0_decide_2 : List UInt8 := [42, 45, 43, 180, 2, 5, 28, 182, 1, 61, 54, 4, 42, 43, 180, 1, 253, 28, 43, 180, 1, 249]
abbrev dktX0_decide_2 : List UInt8 := dkwX0_decide_2 ++ dktX0_decide_3
def dkwX0_decide_1 : List UInt8 := [182, 2, 1, 177, 43, 180, 1, 253, 180, 0, 95, 43, 180, 1, 240, 185, 0, 125, 2, 0, 192, 0, 65, 78]
abbrev dktX0_decide_1 : List UInt8 := dkwX0_decide_1 ++ dktX0_decide_2
def dkwX0_decide_0 : List UInt8 := [43, 180, 1, 240, 43, 180, 1, 253, 180, 0, 95, 185, 0, 110, 1, 0, 160, 0, 10, 42, 43, 28]
abbrev dktX0_decide_0 : List UInt8 := dkwX0_decide_0 ++ dktX0_decide_1
theorem dksX0_decide_0 : cX0_decide.data.toList.drop 0 = dktX0_decide_0 := by decide +kernel
theorem dksX0_decide_1 : cX0_decide.data.toList.drop 22 = dktX0_decide_1 := dk_seg dksX0_decide_0 22 rfl rfl
theorem dksX0_decide_2 : cX0_decide.data.toList.drop 46 = dktX0_decide_2 := dk_seg dksX0_decide_1 24 rfl rfl
theorem dksX0_decide_3 : cX0_decide.data.toList.drop 68 = dktX0_decide_3 := dk_seg dksX0_decide_2 22 rfl rfl
theorem dksX0_decide_4 : cX0_decide.data.toList.drop 90 = dktX0_decide_4 := dk_seg dksX0_decide_3 22 rfl rfl
theorem dksX0_decide_5 : cX0_decide.data.toList.drop 114 = dktX0_decide_5 := dk_seg dksX0_decide_4 24 rfl rfl
theorem dksX0_decide_6 : cX0_decide.data.toList.drop 137 = dktX0_decide_6 := dk_seg dksX0_decide_5 23 rfl rfl
theorem dX0_decide_0 : decode cX0_decide 0 = .ok (.aload_n 1, 1) := dk_43 (dk_at dksX0_decide_0 0 rfl rfl)
theorem dX0_decide_1 : decode cX0_decide 1 = .ok (.getfield 496, 3) := dk_180 1 240 (dk_at dksX0_decide_0 1 rfl rfl)
theorem dX0_decide_4 : decode cX0_decide 4 = .ok (.aload_n 1, 1) := dk_43 (dk_at dksX0_decide_0 4 rfl rfl)
theorem dX0_decide_5 : decode cX0_decide 5 = .ok (.getfield 509, 3) := dk_180 1 253 (dk_at dksX0_decide_0 5 rfl rfl)
theorem dX0_decide_8 : decode cX0_decide 8 = .ok (.getfield 95, 3) := dk_180 0 95 (dk_at dksX0_decide_0 8 rfl rfl)
theorem dX0_decide_11 : decode cX0_decide 11 = .ok (.invokeinterface 110 1, 5) := by decide +kernel
theorem dX0_decide_16 : decode cX0_decide 16 = .ok (.if_icmp .ne 10, 3) := dk_160 0 10 (dk_at dksX0_decide_0 16 rfl rfl)
theorem dX0_decide_19 : decode cX0_decide 19 = .ok (.aload_n 0, 1) := dk_42 (dk_at dksX0_decide_0 19 rfl rfl)
theorem dX0_decide_20 : decode cX0_decide 20 = .ok (.aload_n 1, 1) := dk_43 (dk_at dksX0_decide_0 20 rfl rfl)
theorem dX0_decide_21 : decode cX0_decide 21 = .ok (.iload_n 2, 1) := dk_28 (dk_at dksX0_decide_0 21 rfl rfl)
theorem dX0_decide_22 : decode cX0_decide 22 = .ok (.invokevirtual 513, 3) := dk_182 2 1 (dk_at dksX0_decide_1 0 rfl rfl)
theorem dX0_decide_25 : decode cX0_decide 25 = .ok (.return_, 1) := dk_177 (dk_at dksX0_decide_1 3 rfl rfl)
theorem dX0_decide_26 : decode cX0_decide 26 = .ok (.aload_n 1, 1) := dk_43 (dk_at dksX0_decide_1 4 rfl rfl)
theorem dX0_decide_27 : decode cX0_decide 27 = .ok (.getfield 509, 3) := dk_180 1 253 (dk_at dksX0_decide_1 5 rfl rfl)
theorem dX0_decide_30 : decode cX0_decide 30 = .ok (.getfield 95, 3) := dk_180 0 95 (dk_at dksX0_decide_1 8 rfl rfl)
theorem dX0_decide_33 : decode cX0_decide 33 = .ok (.aload_n 1, 1) := dk_43 (dk_at dksX0_decide_1 11 rfl rfl)
theorem dX0_decide_34 : decode cX0_decide 34 = .ok (.getfield 496, 3) := dk_180 1 240 (dk_at dksX0_decide_1 12 rfl rfl)
theorem dX0_decide_37 : decode cX0_decide 37 = .ok (.invokeinterface 125 2, 5) := by decide +kernel
theorem dX0_decide_42 : decode cX0_decide 42 = .ok (.checkcast 65, 3) := dk_192 0 65 (dk_at dksX0_decide_1 20 rfl rfl)
theorem dX0_decide_45 : decode cX0_decide 45 = .ok (.astore_n 3, 1) := dk_78 (dk_at dksX0_decide_1 23 rfl rfl)
theorem dX0_decide_46 : decode cX0_decide 46 = .ok (.aload_n 0, 1) := dk_42 (dk_at dksX0_decide_2 0 rfl rfl)
theorem dX0_decide_47 : decode cX0_decide 47 = .ok (.aload_n 3, 1) := dk_45 (dk_at dksX0_decide_2 1 rfl rfl)
theorem dX0_decide_48 : decode cX0_decide 48 = .ok (.aload_n 1, 1) := dk_43 (dk_at dksX0_decide_2 2 rfl rfl)
theorem dX0_decide_49 : decode cX0_decide 49 = .ok (.getfield 517, 3) := dk_180 2 5 (dk_at dksX0_decide_2 3 rfl rfl)
theorem dX0_decide_52 : decode cX0_decide 52 = .ok (.iload_n 2, 1) := dk_28 (dk_at dksX0_decide_2 6 rfl rfl)
theorem dX0_decide_53 : decode cX0_decide 53 = .ok (.invokevirtual 317, 3) := dk_182 1 61 (dk_at dksX0_decide_2 7 rfl rfl)
theorem dX0_decide_56 : decode cX0_decide 56 = .ok (.istore 4, 2) := dk_54 4 (dk_at dksX0_decide_2 10 rfl rfl)
theorem dX0_decide_58 : decode cX0_decide 58 = .ok (.aload_n 0, 1) := dk_42 (dk_at dksX0_decide_2 12 rfl rfl)
theorem dX0_decide_59 : decode cX0_decide 59 = .ok (.aload_n 1, 1) := dk_43 (dk_at dksX0_decide_2 13 rfl rfl)
theorem dX0_decide_60 : decode cX0_decide 60 = .ok (.getfield 509, 3) := dk_180 1 253 (dk_at dksX0_decide_2 14 rfl rfl)
theorem dX0_decide_63 : decode cX0_decide 63 = .ok (.iload_n 2, 1) := dk_28 (dk_at dksX0_decide_2 17 rfl rfl)
theorem dX0_decide_64 : decode cX0_decide 64 = .ok (.aload_n 1, 1) := dk_43 (dk_at dksX0_decide_2 18 rfl rfl)
theorem dX0_decide_65 : decode cX0_decide 65 = .ok (.getfield 505, 3) := dk_180 1 249 (dk_at dksX0_decide_2 19 rfl rfl)
theorem dX0_decide_68 : decode cX0_decide 68 = .ok (.invokevirtual 385, 3) := dk_182 1 129 (dk_at dksX0_decide_3 0 rfl rfl)
theorem dX0_decide_71 : decode cX0_decide 71 = .ok (.iload 4, 2) := dk_21 4 (dk_at dksX0_decide_3 3 rfl rfl)
theorem dX0_decide_73 : decode cX0_decide 73 = .ok (.bipush (-5), 2) := dk_16 251 (dk_at dksX0_decide_3 5 rfl rfl)
theorem dX0_decide_75 : decode cX0_decide 75 = .ok (.if_icmp .eq 13, 3) := dk_159 0 13 (dk_at dksX0_decide_3 7 rfl rfl)
theorem dX0_decide_78 : decode cX0_decide 78 = .ok (.aload_n 0, 1) := dk_42 (dk_at dksX0_decide_3 10 rfl rfl)
theorem dX0_decide_79 : decode cX0_decide 79 = .ok (.iconst 3, 1) := dk_6 (dk_at dksX0_decide_3 11 rfl rfl)
theorem dX0_decide_80 : decode cX0_decide 80 = .ok (.invokevirtual 396, 3) := dk_182 1 140 (dk_at dksX0_decide_3 12 rfl rfl)
theorem dX0_decide_83 : decode cX0_decide 83 = .ok (.bipush (-4), 2) := dk_16 252 (dk_at dksX0_decide_3 15 rfl rfl)
theorem dX0_decide_85 : decode cX0_decide 85 = .ok (.if_icmp .eq 17, 3) := dk_159 0 17 (dk_at dksX0_decide_3 17 rfl rfl)
theorem dX0_decide_88 : decode cX0_decide 88 = .ok (.aload_n 1, 1) := dk_43 (dk_at dksX0_decide_3 20 rfl rfl)
theorem dX0_decide_89 : decode cX0_decide 89 = .ok (.iconst 1, 1) := dk_4 (dk_at dksX0_decide_3 21 rfl rfl)
theorem dX0_decide_90 : decode cX0_decide 90 = .ok (.putfield 518, 3) := dk_181 2 6 (dk_at dksX0_decide_4 0 rfl rfl)
theorem dX0_decide_93 : decode cX0_decide 93 = .ok (.aload_n 0, 1) := dk_42 (dk_at dksX0_decide_4 3 rfl rfl)
theorem dX0_decide_94 : decode cX0_decide 94 = .ok (.aload_n 1, 1) := dk_43 (dk_at dksX0_decide_4 4 rfl rfl)
theorem dX0_decide_95 : decode cX0_decide 95 = .ok (.iload_n 2, 1) := dk_28 (dk_at dksX0_decide_4 5 rfl rfl)
theorem dX0_decide_96 : decode cX0_decide 96 = .ok (.invokevirtual 513, 3) := dk_182 2 1 (dk_at dksX0_decide_4 6 rfl rfl)
theorem dX0_decide_99 : decode cX0_decide 99 = .ok (.goto 44, 3) := dk_167 0 44 (dk_at dksX0_decide_4 9 rfl rfl)
theorem dX0_decide_102 : decode cX0_decide 102 = .ok (.aload_n 3, 1) := dk_45 (dk_at dksX0_decide_4 12 rfl rfl)
theorem dX0_decide_103 : decode cX0_decide 103 = .ok (.getfield 82, 3) := dk_180 0 82 (dk_at dksX0_decide_4 13 rfl rfl)
theorem dX0_decide_106 : decode cX0_decide 106 = .ok (.ifCond .eq 24, 3) := dk_153 0 24 (dk_at dksX0_decide_4 16 rfl rfl)
theorem dX0_decide_109 : decode cX0_decide 109 = .ok (.aload_n 0, 1) := dk_42 (dk_at dksX0_decide_4 19 rfl rfl)
theorem dX0_decide_110 : decode cX0_decide 110 = .ok (.aload_n 3, 1) := dk_45 (dk_at dksX0_decide_4 20 rfl rfl)
theorem dX0_decide_111 : decode cX0_decide 111 = .ok (.invokevirtual 521, 3) := dk_182 2 9 (dk_at dksX0_decide_4 21 rfl rfl)
theorem dX0_decide_114 : decode cX0_decide 114 = .ok (.ifCond .eq 16, 3) := dk_153 0 16 (dk_at dksX0_decide_5 0 rfl rfl)
theorem dX0_decide_117 : decode cX0_decide 117 = .ok (.aload_n 1, 1) := dk_43 (dk_at dksX0_decide_5 3 rfl rfl)
theorem dX0_decide_118 : decode cX0_decide 118 = .ok (.dup, 1) := dk_89 (dk_at dksX0_decide_5 4 rfl rfl)
theorem dX0_decide_119 : decode cX0_decide 119 = .ok (.getfield 525, 3) := dk_180 2 13 (dk_at dksX0_decide_5 5 rfl rfl)
theorem dX0_decide_122 : decode cX0_decide 122 = .ok (.iconst 1, 1) := dk_4 (dk_at dksX0_decide_5 8 rfl rfl)
theorem dX0_decide_123 : decode cX0_decide 123 = .ok (.iadd, 1) := dk_96 (dk_at dksX0_decide_5 9 rfl rfl)
theorem dX0_decide_124 : decode cX0_decide 124 = .ok (.putfield 525, 3) := dk_181 2 13 (dk_at dksX0_decide_5 10 rfl rfl)
theorem dX0_decide_127 : decode cX0_decide 127 = .ok (.goto 16, 3) := dk_167 0 16 (dk_at dksX0_decide_5 13 rfl rfl)
theorem dX0_decide_130 : decode cX0_decide 130 = .ok (.aload_n 1, 1) := dk_43 (dk_at dksX0_decide_5 16 rfl rfl)
theorem dX0_decide_131 : decode cX0_decide 131 = .ok (.aload_n 3, 1) := dk_45 (dk_at dksX0_decide_5 17 rfl rfl)
theorem dX0_decide_132 : decode cX0_decide 132 = .ok (.putfield 485, 3) := dk_181 1 229 (dk_at dksX0_decide_5 18 rfl rfl)
theorem dX0_decide_135 : decode cX0_decide 135 = .ok (.aload_n 1, 1) := dk_43 (dk_at dksX0_decide_5 21 rfl rfl)
theorem dX0_decide_136 : decode cX0_decide 136 = .ok (.iload_n 2, 1) := dk_28 (dk_at dksX0_decide_5 22 rfl rfl)
theorem dX0_decide_137 : decode cX0_decide 137 = .ok (.iload 4, 2) := dk_21 4 (dk_at dksX0_decide_6 0 rfl rfl)
theorem dX0_decide_139 : decode cX0_decide 139 = .ok (.iadd, 1) := dk_96 (dk_at dksX0_decide_6 2 rfl rfl)
theorem dX0_decide_140 : decode cX0_decide 140 = .ok (.putfield 489, 3) := dk_181 1 233 (dk_at dksX0_decide_6 3 rfl rfl)
theorem dX0_decide_143 : decode cX0_decide 143 = .ok (.return_, 1) := dk_177 (dk_at dksX0_decide_6 6 rfl rfl)
abbrev cX0_finish : ByteArray := prog_1_method_70_code
def yX0_finish : MethodName := ⟨RX0, "finish", "(LValleyGuides$Rope;I)V"⟩
def dkwX0_finish_3 : List UInt8 := [96, 79, 177]
abbrev dktX0_finish_3 : List UInt8 := dkwX0_finish_3 ++ []
def dkwX0_finish_2 : List UInt8 := [180, 1, 250, 96, 79, 42, 180, 0, 204, 43, 180, 1, 239, 92, 46, 43, 180, 1, 249, 43, 180, 1, 250, 100]
abbrev dktX0_finish_2 : List UInt8 := dkwX0_finish_2 ++ dktX0_finish_3
def dkwX0_finish_1 : List UInt8 := [180, 1, 239, 46, 100, 184, 1, 24, 181, 1, 250, 42, 180, 0, 201, 43, 180, 1, 239, 92, 46, 43]
abbrev dktX0_finish_1 : List UInt8 := dkwX0_finish_1 ++ dktX0_finish_2
def dkwX0_finish_0 : List UInt8 := [43, 28, 181, 1, 246, 43, 43, 180, 1, 249, 42, 180, 0, 23, 43, 180, 1, 239, 46, 42, 180, 0, 201, 43]
abbrev dktX0_finish_0 : List UInt8 := dkwX0_finish_0 ++ dktX0_finish_1
theorem dksX0_finish_0 : cX0_finish.data.toList.drop 0 = dktX0_finish_0 := by decide +kernel
theorem dksX0_finish_1 : cX0_finish.data.toList.drop 24 = dktX0_finish_1 := dk_seg dksX0_finish_0 24 rfl rfl
theorem dksX0_finish_2 : cX0_finish.data.toList.drop 46 = dktX0_finish_2 := dk_seg dksX0_finish_1 22 rfl rfl
theorem dksX0_finish_3 : cX0_finish.data.toList.drop 70 = dktX0_finish_3 := dk_seg dksX0_finish_2 24 rfl rfl
theorem dX0_finish_0 : decode cX0_finish 0 = .ok (.aload_n 1, 1) := dk_43 (dk_at dksX0_finish_0 0 rfl rfl)
theorem dX0_finish_1 : decode cX0_finish 1 = .ok (.iload_n 2, 1) := dk_28 (dk_at dksX0_finish_0 1 rfl rfl)
theorem dX0_finish_2 : decode cX0_finish 2 = .ok (.putfield 502, 3) := dk_181 1 246 (dk_at dksX0_finish_0 2 rfl rfl)
theorem dX0_finish_5 : decode cX0_finish 5 = .ok (.aload_n 1, 1) := dk_43 (dk_at dksX0_finish_0 5 rfl rfl)
theorem dX0_finish_6 : decode cX0_finish 6 = .ok (.aload_n 1, 1) := dk_43 (dk_at dksX0_finish_0 6 rfl rfl)
theorem dX0_finish_7 : decode cX0_finish 7 = .ok (.getfield 505, 3) := dk_180 1 249 (dk_at dksX0_finish_0 7 rfl rfl)
theorem dX0_finish_10 : decode cX0_finish 10 = .ok (.aload_n 0, 1) := dk_42 (dk_at dksX0_finish_0 10 rfl rfl)
theorem dX0_finish_11 : decode cX0_finish 11 = .ok (.getfield 23, 3) := dk_180 0 23 (dk_at dksX0_finish_0 11 rfl rfl)
theorem dX0_finish_14 : decode cX0_finish 14 = .ok (.aload_n 1, 1) := dk_43 (dk_at dksX0_finish_0 14 rfl rfl)
theorem dX0_finish_15 : decode cX0_finish 15 = .ok (.getfield 495, 3) := dk_180 1 239 (dk_at dksX0_finish_0 15 rfl rfl)
theorem dX0_finish_18 : decode cX0_finish 18 = .ok (.iaload, 1) := dk_46 (dk_at dksX0_finish_0 18 rfl rfl)
theorem dX0_finish_19 : decode cX0_finish 19 = .ok (.aload_n 0, 1) := dk_42 (dk_at dksX0_finish_0 19 rfl rfl)
theorem dX0_finish_20 : decode cX0_finish 20 = .ok (.getfield 201, 3) := dk_180 0 201 (dk_at dksX0_finish_0 20 rfl rfl)
theorem dX0_finish_23 : decode cX0_finish 23 = .ok (.aload_n 1, 1) := dk_43 (dk_at dksX0_finish_0 23 rfl rfl)
theorem dX0_finish_24 : decode cX0_finish 24 = .ok (.getfield 495, 3) := dk_180 1 239 (dk_at dksX0_finish_1 0 rfl rfl)
theorem dX0_finish_27 : decode cX0_finish 27 = .ok (.iaload, 1) := dk_46 (dk_at dksX0_finish_1 3 rfl rfl)
theorem dX0_finish_28 : decode cX0_finish 28 = .ok (.isub, 1) := dk_100 (dk_at dksX0_finish_1 4 rfl rfl)
theorem dX0_finish_29 : decode cX0_finish 29 = .ok (.invokestatic 280, 3) := dk_184 1 24 (dk_at dksX0_finish_1 5 rfl rfl)
theorem dX0_finish_32 : decode cX0_finish 32 = .ok (.putfield 506, 3) := dk_181 1 250 (dk_at dksX0_finish_1 8 rfl rfl)
theorem dX0_finish_35 : decode cX0_finish 35 = .ok (.aload_n 0, 1) := dk_42 (dk_at dksX0_finish_1 11 rfl rfl)
theorem dX0_finish_36 : decode cX0_finish 36 = .ok (.getfield 201, 3) := dk_180 0 201 (dk_at dksX0_finish_1 12 rfl rfl)
theorem dX0_finish_39 : decode cX0_finish 39 = .ok (.aload_n 1, 1) := dk_43 (dk_at dksX0_finish_1 15 rfl rfl)
theorem dX0_finish_40 : decode cX0_finish 40 = .ok (.getfield 495, 3) := dk_180 1 239 (dk_at dksX0_finish_1 16 rfl rfl)
theorem dX0_finish_43 : decode cX0_finish 43 = .ok (.dup2, 1) := dk_92 (dk_at dksX0_finish_1 19 rfl rfl)
theorem dX0_finish_44 : decode cX0_finish 44 = .ok (.iaload, 1) := dk_46 (dk_at dksX0_finish_1 20 rfl rfl)
theorem dX0_finish_45 : decode cX0_finish 45 = .ok (.aload_n 1, 1) := dk_43 (dk_at dksX0_finish_1 21 rfl rfl)
theorem dX0_finish_46 : decode cX0_finish 46 = .ok (.getfield 506, 3) := dk_180 1 250 (dk_at dksX0_finish_2 0 rfl rfl)
theorem dX0_finish_49 : decode cX0_finish 49 = .ok (.iadd, 1) := dk_96 (dk_at dksX0_finish_2 3 rfl rfl)
theorem dX0_finish_50 : decode cX0_finish 50 = .ok (.iastore, 1) := dk_79 (dk_at dksX0_finish_2 4 rfl rfl)
theorem dX0_finish_51 : decode cX0_finish 51 = .ok (.aload_n 0, 1) := dk_42 (dk_at dksX0_finish_2 5 rfl rfl)
theorem dX0_finish_52 : decode cX0_finish 52 = .ok (.getfield 204, 3) := dk_180 0 204 (dk_at dksX0_finish_2 6 rfl rfl)
theorem dX0_finish_55 : decode cX0_finish 55 = .ok (.aload_n 1, 1) := dk_43 (dk_at dksX0_finish_2 9 rfl rfl)
theorem dX0_finish_56 : decode cX0_finish 56 = .ok (.getfield 495, 3) := dk_180 1 239 (dk_at dksX0_finish_2 10 rfl rfl)
theorem dX0_finish_59 : decode cX0_finish 59 = .ok (.dup2, 1) := dk_92 (dk_at dksX0_finish_2 13 rfl rfl)
theorem dX0_finish_60 : decode cX0_finish 60 = .ok (.iaload, 1) := dk_46 (dk_at dksX0_finish_2 14 rfl rfl)
theorem dX0_finish_61 : decode cX0_finish 61 = .ok (.aload_n 1, 1) := dk_43 (dk_at dksX0_finish_2 15 rfl rfl)
theorem dX0_finish_62 : decode cX0_finish 62 = .ok (.getfield 505, 3) := dk_180 1 249 (dk_at dksX0_finish_2 16 rfl rfl)
theorem dX0_finish_65 : decode cX0_finish 65 = .ok (.aload_n 1, 1) := dk_43 (dk_at dksX0_finish_2 19 rfl rfl)
theorem dX0_finish_66 : decode cX0_finish 66 = .ok (.getfield 506, 3) := dk_180 1 250 (dk_at dksX0_finish_2 20 rfl rfl)
theorem dX0_finish_69 : decode cX0_finish 69 = .ok (.isub, 1) := dk_100 (dk_at dksX0_finish_2 23 rfl rfl)
theorem dX0_finish_70 : decode cX0_finish 70 = .ok (.iadd, 1) := dk_96 (dk_at dksX0_finish_3 0 rfl rfl)
theorem dX0_finish_71 : decode cX0_finish 71 = .ok (.iastore, 1) := dk_79 (dk_at dksX0_finish_3 1 rfl rfl)
theorem dX0_finish_72 : decode cX0_finish 72 = .ok (.return_, 1) := dk_177 (dk_at dksX0_finish_3 2 rfl rfl)
abbrev cX0_isTaken : ByteArray := prog_1_method_68_code
def yX0_isTaken : MethodName := ⟨RX0, "isTaken", "(LValleyGuides$Step;)Z"⟩
def dkwX0_isTaken_1 : List UInt8 := [180, 1, 229, 43, 166, 0, 7, 4, 167, 0, 4, 3, 61, 132, 3, 1, 167, 255, 222, 28, 172]
abbrev dktX0_isTaken_1 : List UInt8 := dkwX0_isTaken_1 ++ []
def dkwX0_isTaken_0 : List UInt8 := [3, 61, 3, 62, 29, 42, 180, 1, 223, 162, 0, 32, 28, 154, 0, 16, 42, 180, 0, 197, 29, 50]
abbrev dktX0_isTaken_0 : List UInt8 := dkwX0_isTaken_0 ++ dktX0_isTaken_1
theorem dksX0_isTaken_0 : cX0_isTaken.data.toList.drop 0 = dktX0_isTaken_0 := by decide +kernel
theorem dksX0_isTaken_1 : cX0_isTaken.data.toList.drop 22 = dktX0_isTaken_1 := dk_seg dksX0_isTaken_0 22 rfl rfl
theorem dX0_isTaken_0 : decode cX0_isTaken 0 = .ok (.iconst 0, 1) := dk_3 (dk_at dksX0_isTaken_0 0 rfl rfl)
theorem dX0_isTaken_1 : decode cX0_isTaken 1 = .ok (.istore_n 2, 1) := dk_61 (dk_at dksX0_isTaken_0 1 rfl rfl)
theorem dX0_isTaken_2 : decode cX0_isTaken 2 = .ok (.iconst 0, 1) := dk_3 (dk_at dksX0_isTaken_0 2 rfl rfl)
theorem dX0_isTaken_3 : decode cX0_isTaken 3 = .ok (.istore_n 3, 1) := dk_62 (dk_at dksX0_isTaken_0 3 rfl rfl)
theorem dX0_isTaken_4 : decode cX0_isTaken 4 = .ok (.iload_n 3, 1) := dk_29 (dk_at dksX0_isTaken_0 4 rfl rfl)
theorem dX0_isTaken_5 : decode cX0_isTaken 5 = .ok (.aload_n 0, 1) := dk_42 (dk_at dksX0_isTaken_0 5 rfl rfl)
theorem dX0_isTaken_6 : decode cX0_isTaken 6 = .ok (.getfield 479, 3) := dk_180 1 223 (dk_at dksX0_isTaken_0 6 rfl rfl)
theorem dX0_isTaken_9 : decode cX0_isTaken 9 = .ok (.if_icmp .ge 32, 3) := dk_162 0 32 (dk_at dksX0_isTaken_0 9 rfl rfl)
theorem dX0_isTaken_12 : decode cX0_isTaken 12 = .ok (.iload_n 2, 1) := dk_28 (dk_at dksX0_isTaken_0 12 rfl rfl)
theorem dX0_isTaken_13 : decode cX0_isTaken 13 = .ok (.ifCond .ne 16, 3) := dk_154 0 16 (dk_at dksX0_isTaken_0 13 rfl rfl)
theorem dX0_isTaken_16 : decode cX0_isTaken 16 = .ok (.aload_n 0, 1) := dk_42 (dk_at dksX0_isTaken_0 16 rfl rfl)
theorem dX0_isTaken_17 : decode cX0_isTaken 17 = .ok (.getfield 197, 3) := dk_180 0 197 (dk_at dksX0_isTaken_0 17 rfl rfl)
theorem dX0_isTaken_20 : decode cX0_isTaken 20 = .ok (.iload_n 3, 1) := dk_29 (dk_at dksX0_isTaken_0 20 rfl rfl)
theorem dX0_isTaken_21 : decode cX0_isTaken 21 = .ok (.aaload, 1) := dk_50 (dk_at dksX0_isTaken_0 21 rfl rfl)
theorem dX0_isTaken_22 : decode cX0_isTaken 22 = .ok (.getfield 485, 3) := dk_180 1 229 (dk_at dksX0_isTaken_1 0 rfl rfl)
theorem dX0_isTaken_25 : decode cX0_isTaken 25 = .ok (.aload_n 1, 1) := dk_43 (dk_at dksX0_isTaken_1 3 rfl rfl)
theorem dX0_isTaken_26 : decode cX0_isTaken 26 = .ok (.if_acmp .ne 7, 3) := dk_166 0 7 (dk_at dksX0_isTaken_1 4 rfl rfl)
theorem dX0_isTaken_29 : decode cX0_isTaken 29 = .ok (.iconst 1, 1) := dk_4 (dk_at dksX0_isTaken_1 7 rfl rfl)
theorem dX0_isTaken_30 : decode cX0_isTaken 30 = .ok (.goto 4, 3) := dk_167 0 4 (dk_at dksX0_isTaken_1 8 rfl rfl)
theorem dX0_isTaken_33 : decode cX0_isTaken 33 = .ok (.iconst 0, 1) := dk_3 (dk_at dksX0_isTaken_1 11 rfl rfl)
theorem dX0_isTaken_34 : decode cX0_isTaken 34 = .ok (.istore_n 2, 1) := dk_61 (dk_at dksX0_isTaken_1 12 rfl rfl)
theorem dX0_isTaken_35 : decode cX0_isTaken 35 = .ok (.iinc 3 1, 3) := dk_132 3 1 (dk_at dksX0_isTaken_1 13 rfl rfl)
theorem dX0_isTaken_38 : decode cX0_isTaken 38 = .ok (.goto (-34), 3) := dk_167 255 222 (dk_at dksX0_isTaken_1 16 rfl rfl)
theorem dX0_isTaken_41 : decode cX0_isTaken 41 = .ok (.iload_n 2, 1) := dk_28 (dk_at dksX0_isTaken_1 19 rfl rfl)
theorem dX0_isTaken_42 : decode cX0_isTaken 42 = .ok (.ireturn, 1) := dk_172 (dk_at dksX0_isTaken_1 20 rfl rfl)
abbrev cX0_stayed : ByteArray := prog_1_method_74_code
def yX0_stayed : MethodName := ⟨RX0, "stayed", "(II)I"⟩
def dkwX0_stayed_2 : List UInt8 := [180, 0, 204, 27, 46, 167, 0, 9, 42, 180, 0, 207, 27, 46, 172]
abbrev dktX0_stayed_2 : List UInt8 := dkwX0_stayed_2 ++ []
def dkwX0_stayed_1 : List UInt8 := [182, 2, 35, 28, 154, 0, 12, 42, 180, 0, 201, 27, 46, 167, 0, 23, 28, 4, 160, 0, 12, 42]
abbrev dktX0_stayed_1 : List UInt8 := dkwX0_stayed_1 ++ dktX0_stayed_2
def dkwX0_stayed_0 : List UInt8 := [42, 27, 182, 0, 45, 153, 0, 15, 28, 133, 9, 20, 0, 240, 184, 0, 9, 154, 0, 5, 2, 172, 42]
abbrev dktX0_stayed_0 : List UInt8 := dkwX0_stayed_0 ++ dktX0_stayed_1
theorem dksX0_stayed_0 : cX0_stayed.data.toList.drop 0 = dktX0_stayed_0 := by decide +kernel
theorem dksX0_stayed_1 : cX0_stayed.data.toList.drop 23 = dktX0_stayed_1 := dk_seg dksX0_stayed_0 23 rfl rfl
theorem dksX0_stayed_2 : cX0_stayed.data.toList.drop 45 = dktX0_stayed_2 := dk_seg dksX0_stayed_1 22 rfl rfl
theorem dX0_stayed_0 : decode cX0_stayed 0 = .ok (.aload_n 0, 1) := dk_42 (dk_at dksX0_stayed_0 0 rfl rfl)
theorem dX0_stayed_1 : decode cX0_stayed 1 = .ok (.iload_n 1, 1) := dk_27 (dk_at dksX0_stayed_0 1 rfl rfl)
theorem dX0_stayed_2 : decode cX0_stayed 2 = .ok (.invokevirtual 45, 3) := dk_182 0 45 (dk_at dksX0_stayed_0 2 rfl rfl)
theorem dX0_stayed_5 : decode cX0_stayed 5 = .ok (.ifCond .eq 15, 3) := dk_153 0 15 (dk_at dksX0_stayed_0 5 rfl rfl)
theorem dX0_stayed_8 : decode cX0_stayed 8 = .ok (.iload_n 2, 1) := dk_28 (dk_at dksX0_stayed_0 8 rfl rfl)
theorem dX0_stayed_9 : decode cX0_stayed 9 = .ok (.i2l, 1) := dk_133 (dk_at dksX0_stayed_0 9 rfl rfl)
theorem dX0_stayed_10 : decode cX0_stayed 10 = .ok (.lconst 0, 1) := dk_9 (dk_at dksX0_stayed_0 10 rfl rfl)
theorem dX0_stayed_11 : decode cX0_stayed 11 = .ok (.ldc2_w 240, 3) := dk_20 0 240 (dk_at dksX0_stayed_0 11 rfl rfl)
theorem dX0_stayed_14 : decode cX0_stayed 14 = .ok (.invokestatic 9, 3) := dk_184 0 9 (dk_at dksX0_stayed_0 14 rfl rfl)
theorem dX0_stayed_17 : decode cX0_stayed 17 = .ok (.ifCond .ne 5, 3) := dk_154 0 5 (dk_at dksX0_stayed_0 17 rfl rfl)
theorem dX0_stayed_20 : decode cX0_stayed 20 = .ok (.iconst (-1), 1) := dk_2 (dk_at dksX0_stayed_0 20 rfl rfl)
theorem dX0_stayed_21 : decode cX0_stayed 21 = .ok (.ireturn, 1) := dk_172 (dk_at dksX0_stayed_0 21 rfl rfl)
theorem dX0_stayed_22 : decode cX0_stayed 22 = .ok (.aload_n 0, 1) := dk_42 (dk_at dksX0_stayed_0 22 rfl rfl)
theorem dX0_stayed_23 : decode cX0_stayed 23 = .ok (.invokevirtual 547, 3) := dk_182 2 35 (dk_at dksX0_stayed_1 0 rfl rfl)
theorem dX0_stayed_26 : decode cX0_stayed 26 = .ok (.iload_n 2, 1) := dk_28 (dk_at dksX0_stayed_1 3 rfl rfl)
theorem dX0_stayed_27 : decode cX0_stayed 27 = .ok (.ifCond .ne 12, 3) := dk_154 0 12 (dk_at dksX0_stayed_1 4 rfl rfl)
theorem dX0_stayed_30 : decode cX0_stayed 30 = .ok (.aload_n 0, 1) := dk_42 (dk_at dksX0_stayed_1 7 rfl rfl)
theorem dX0_stayed_31 : decode cX0_stayed 31 = .ok (.getfield 201, 3) := dk_180 0 201 (dk_at dksX0_stayed_1 8 rfl rfl)
theorem dX0_stayed_34 : decode cX0_stayed 34 = .ok (.iload_n 1, 1) := dk_27 (dk_at dksX0_stayed_1 11 rfl rfl)
theorem dX0_stayed_35 : decode cX0_stayed 35 = .ok (.iaload, 1) := dk_46 (dk_at dksX0_stayed_1 12 rfl rfl)
theorem dX0_stayed_36 : decode cX0_stayed 36 = .ok (.goto 23, 3) := dk_167 0 23 (dk_at dksX0_stayed_1 13 rfl rfl)
theorem dX0_stayed_39 : decode cX0_stayed 39 = .ok (.iload_n 2, 1) := dk_28 (dk_at dksX0_stayed_1 16 rfl rfl)
theorem dX0_stayed_40 : decode cX0_stayed 40 = .ok (.iconst 1, 1) := dk_4 (dk_at dksX0_stayed_1 17 rfl rfl)
theorem dX0_stayed_41 : decode cX0_stayed 41 = .ok (.if_icmp .ne 12, 3) := dk_160 0 12 (dk_at dksX0_stayed_1 18 rfl rfl)
theorem dX0_stayed_44 : decode cX0_stayed 44 = .ok (.aload_n 0, 1) := dk_42 (dk_at dksX0_stayed_1 21 rfl rfl)
theorem dX0_stayed_45 : decode cX0_stayed 45 = .ok (.getfield 204, 3) := dk_180 0 204 (dk_at dksX0_stayed_2 0 rfl rfl)
theorem dX0_stayed_48 : decode cX0_stayed 48 = .ok (.iload_n 1, 1) := dk_27 (dk_at dksX0_stayed_2 3 rfl rfl)
theorem dX0_stayed_49 : decode cX0_stayed 49 = .ok (.iaload, 1) := dk_46 (dk_at dksX0_stayed_2 4 rfl rfl)
theorem dX0_stayed_50 : decode cX0_stayed 50 = .ok (.goto 9, 3) := dk_167 0 9 (dk_at dksX0_stayed_2 5 rfl rfl)
theorem dX0_stayed_53 : decode cX0_stayed 53 = .ok (.aload_n 0, 1) := dk_42 (dk_at dksX0_stayed_2 8 rfl rfl)
theorem dX0_stayed_54 : decode cX0_stayed 54 = .ok (.getfield 207, 3) := dk_180 0 207 (dk_at dksX0_stayed_2 9 rfl rfl)
theorem dX0_stayed_57 : decode cX0_stayed 57 = .ok (.iload_n 1, 1) := dk_27 (dk_at dksX0_stayed_2 12 rfl rfl)
theorem dX0_stayed_58 : decode cX0_stayed 58 = .ok (.iaload, 1) := dk_46 (dk_at dksX0_stayed_2 13 rfl rfl)
theorem dX0_stayed_59 : decode cX0_stayed 59 = .ok (.ireturn, 1) := dk_172 (dk_at dksX0_stayed_2 14 rfl rfl)
abbrev cX0_at : ByteArray := prog_1_method_75_code
def yX0_at : MethodName := ⟨RX0, "at", "(II)I"⟩
def dkwX0_at_1 : List UInt8 := [180, 0, 197, 27, 50, 180, 2, 29, 28, 46, 172]
abbrev dktX0_at_1 : List UInt8 := dkwX0_at_1 ++ []
def dkwX0_at_0 : List UInt8 := [42, 27, 182, 2, 32, 153, 0, 10, 28, 184, 1, 55, 154, 0, 5, 2, 172, 42, 182, 2, 35, 42]
abbrev dktX0_at_0 : List UInt8 := dkwX0_at_0 ++ dktX0_at_1
theorem dksX0_at_0 : cX0_at.data.toList.drop 0 = dktX0_at_0 := by decide +kernel
theorem dksX0_at_1 : cX0_at.data.toList.drop 22 = dktX0_at_1 := dk_seg dksX0_at_0 22 rfl rfl
theorem dX0_at_0 : decode cX0_at 0 = .ok (.aload_n 0, 1) := dk_42 (dk_at dksX0_at_0 0 rfl rfl)
theorem dX0_at_1 : decode cX0_at 1 = .ok (.iload_n 1, 1) := dk_27 (dk_at dksX0_at_0 1 rfl rfl)
theorem dX0_at_2 : decode cX0_at 2 = .ok (.invokevirtual 544, 3) := dk_182 2 32 (dk_at dksX0_at_0 2 rfl rfl)
theorem dX0_at_5 : decode cX0_at 5 = .ok (.ifCond .eq 10, 3) := dk_153 0 10 (dk_at dksX0_at_0 5 rfl rfl)
theorem dX0_at_8 : decode cX0_at 8 = .ok (.iload_n 2, 1) := dk_28 (dk_at dksX0_at_0 8 rfl rfl)
theorem dX0_at_9 : decode cX0_at 9 = .ok (.invokestatic 311, 3) := dk_184 1 55 (dk_at dksX0_at_0 9 rfl rfl)
theorem dX0_at_12 : decode cX0_at 12 = .ok (.ifCond .ne 5, 3) := dk_154 0 5 (dk_at dksX0_at_0 12 rfl rfl)
theorem dX0_at_15 : decode cX0_at 15 = .ok (.iconst (-1), 1) := dk_2 (dk_at dksX0_at_0 15 rfl rfl)
theorem dX0_at_16 : decode cX0_at 16 = .ok (.ireturn, 1) := dk_172 (dk_at dksX0_at_0 16 rfl rfl)
theorem dX0_at_17 : decode cX0_at 17 = .ok (.aload_n 0, 1) := dk_42 (dk_at dksX0_at_0 17 rfl rfl)
theorem dX0_at_18 : decode cX0_at 18 = .ok (.invokevirtual 547, 3) := dk_182 2 35 (dk_at dksX0_at_0 18 rfl rfl)
theorem dX0_at_21 : decode cX0_at 21 = .ok (.aload_n 0, 1) := dk_42 (dk_at dksX0_at_0 21 rfl rfl)
theorem dX0_at_22 : decode cX0_at 22 = .ok (.getfield 197, 3) := dk_180 0 197 (dk_at dksX0_at_1 0 rfl rfl)
theorem dX0_at_25 : decode cX0_at 25 = .ok (.iload_n 1, 1) := dk_27 (dk_at dksX0_at_1 3 rfl rfl)
theorem dX0_at_26 : decode cX0_at 26 = .ok (.aaload, 1) := dk_50 (dk_at dksX0_at_1 4 rfl rfl)
theorem dX0_at_27 : decode cX0_at 27 = .ok (.getfield 541, 3) := dk_180 2 29 (dk_at dksX0_at_1 5 rfl rfl)
theorem dX0_at_30 : decode cX0_at 30 = .ok (.iload_n 2, 1) := dk_28 (dk_at dksX0_at_1 8 rfl rfl)
theorem dX0_at_31 : decode cX0_at 31 = .ok (.iaload, 1) := dk_46 (dk_at dksX0_at_1 9 rfl rfl)
theorem dX0_at_32 : decode cX0_at 32 = .ok (.ireturn, 1) := dk_172 (dk_at dksX0_at_1 10 rfl rfl)
abbrev cX0_near : ByteArray := prog_1_method_76_code
def yX0_near : MethodName := ⟨RX0, "near", "(III)I"⟩
def dkwX0_near_10 : List UInt8 := [154, 0, 8, 21, 4, 167, 0, 5, 21, 5, 172]
abbrev dktX0_near_10 : List UInt8 := dkwX0_near_10 ++ []
def dkwX0_near_9 : List UInt8 := [184, 1, 24, 54, 4, 132, 6, 1, 167, 255, 164, 21, 5, 16, 252, 160, 0, 8, 16, 252, 167, 0, 14, 29]
abbrev dktX0_near_9 : List UInt8 := dkwX0_near_9 ++ dktX0_near_10
def dkwX0_near_8 : List UInt8 := [162, 0, 11, 16, 100, 21, 6, 96, 167, 0, 5, 21, 5, 54, 5, 21, 4, 42, 180, 0, 154, 27, 46]
abbrev dktX0_near_8 : List UInt8 := dkwX0_near_8 ++ dktX0_near_9
def dkwX0_near_7 : List UInt8 := [42, 180, 0, 197, 21, 6, 50, 180, 2, 5, 28, 182, 1, 69, 42, 180, 0, 154, 27, 46, 21, 4]
abbrev dktX0_near_7 : List UInt8 := dkwX0_near_7 ++ dktX0_near_8
def dkwX0_near_6 : List UInt8 := [50, 180, 2, 29, 28, 46, 54, 7, 21, 7, 133, 9, 20, 2, 38, 184, 0, 9, 153, 0, 56, 42, 21, 7]
abbrev dktX0_near_6 : List UInt8 := dkwX0_near_6 ++ dktX0_near_7
def dkwX0_near_5 : List UInt8 := [132, 6, 1, 167, 255, 182, 3, 54, 6, 21, 6, 42, 180, 1, 223, 162, 0, 89, 42, 180, 0, 197, 21, 6]
abbrev dktX0_near_5 : List UInt8 := dkwX0_near_5 ++ dktX0_near_6
def dkwX0_near_4 : List UInt8 := [21, 6, 167, 0, 5, 21, 5, 54, 5, 21, 4, 42, 180, 0, 154, 27, 46, 184, 1, 24, 54, 4]
abbrev dktX0_near_4 : List UInt8 := dkwX0_near_4 ++ dktX0_near_5
def dkwX0_near_3 : List UInt8 := [180, 0, 176, 21, 6, 50, 180, 1, 166, 28, 182, 1, 69, 42, 180, 0, 154, 27, 46, 21, 4, 162, 0, 8]
abbrev dktX0_near_3 : List UInt8 := dkwX0_near_3 ++ dktX0_near_4
def dkwX0_near_2 : List UInt8 := [180, 1, 149, 162, 0, 71, 42, 180, 0, 176, 21, 6, 50, 180, 1, 173, 154, 0, 52, 42, 3, 42]
abbrev dktX0_near_2 : List UInt8 := dkwX0_near_2 ++ dktX0_near_3
def dkwX0_near_1 : List UInt8 := [154, 0, 5, 2, 172, 42, 182, 2, 35, 16, 96, 54, 4, 16, 252, 54, 5, 3, 54, 6, 21, 6, 42]
abbrev dktX0_near_1 : List UInt8 := dkwX0_near_1 ++ dktX0_near_2
def dkwX0_near_0 : List UInt8 := [42, 27, 182, 0, 45, 153, 0, 20, 28, 184, 1, 55, 153, 0, 13, 29, 133, 9, 10, 184, 0, 9]
abbrev dktX0_near_0 : List UInt8 := dkwX0_near_0 ++ dktX0_near_1
theorem dksX0_near_0 : cX0_near.data.toList.drop 0 = dktX0_near_0 := by decide +kernel
theorem dksX0_near_1 : cX0_near.data.toList.drop 22 = dktX0_near_1 := dk_seg dksX0_near_0 22 rfl rfl
theorem dksX0_near_2 : cX0_near.data.toList.drop 45 = dktX0_near_2 := dk_seg dksX0_near_1 23 rfl rfl
theorem dksX0_near_3 : cX0_near.data.toList.drop 67 = dktX0_near_3 := dk_seg dksX0_near_2 22 rfl rfl
theorem dksX0_near_4 : cX0_near.data.toList.drop 91 = dktX0_near_4 := dk_seg dksX0_near_3 24 rfl rfl
theorem dksX0_near_5 : cX0_near.data.toList.drop 113 = dktX0_near_5 := dk_seg dksX0_near_4 22 rfl rfl
theorem dksX0_near_6 : cX0_near.data.toList.drop 137 = dktX0_near_6 := dk_seg dksX0_near_5 24 rfl rfl
theorem dksX0_near_7 : cX0_near.data.toList.drop 161 = dktX0_near_7 := dk_seg dksX0_near_6 24 rfl rfl
theorem dksX0_near_8 : cX0_near.data.toList.drop 183 = dktX0_near_8 := dk_seg dksX0_near_7 22 rfl rfl
theorem dksX0_near_9 : cX0_near.data.toList.drop 206 = dktX0_near_9 := dk_seg dksX0_near_8 23 rfl rfl
theorem dksX0_near_10 : cX0_near.data.toList.drop 230 = dktX0_near_10 := dk_seg dksX0_near_9 24 rfl rfl
theorem dX0_near_0 : decode cX0_near 0 = .ok (.aload_n 0, 1) := dk_42 (dk_at dksX0_near_0 0 rfl rfl)
theorem dX0_near_1 : decode cX0_near 1 = .ok (.iload_n 1, 1) := dk_27 (dk_at dksX0_near_0 1 rfl rfl)
theorem dX0_near_2 : decode cX0_near 2 = .ok (.invokevirtual 45, 3) := dk_182 0 45 (dk_at dksX0_near_0 2 rfl rfl)
theorem dX0_near_5 : decode cX0_near 5 = .ok (.ifCond .eq 20, 3) := dk_153 0 20 (dk_at dksX0_near_0 5 rfl rfl)
theorem dX0_near_8 : decode cX0_near 8 = .ok (.iload_n 2, 1) := dk_28 (dk_at dksX0_near_0 8 rfl rfl)
theorem dX0_near_9 : decode cX0_near 9 = .ok (.invokestatic 311, 3) := dk_184 1 55 (dk_at dksX0_near_0 9 rfl rfl)
theorem dX0_near_12 : decode cX0_near 12 = .ok (.ifCond .eq 13, 3) := dk_153 0 13 (dk_at dksX0_near_0 12 rfl rfl)
theorem dX0_near_15 : decode cX0_near 15 = .ok (.iload_n 3, 1) := dk_29 (dk_at dksX0_near_0 15 rfl rfl)
theorem dX0_near_16 : decode cX0_near 16 = .ok (.i2l, 1) := dk_133 (dk_at dksX0_near_0 16 rfl rfl)
theorem dX0_near_17 : decode cX0_near 17 = .ok (.lconst 0, 1) := dk_9 (dk_at dksX0_near_0 17 rfl rfl)
theorem dX0_near_18 : decode cX0_near 18 = .ok (.lconst 1, 1) := dk_10 (dk_at dksX0_near_0 18 rfl rfl)
theorem dX0_near_19 : decode cX0_near 19 = .ok (.invokestatic 9, 3) := dk_184 0 9 (dk_at dksX0_near_0 19 rfl rfl)
theorem dX0_near_22 : decode cX0_near 22 = .ok (.ifCond .ne 5, 3) := dk_154 0 5 (dk_at dksX0_near_1 0 rfl rfl)
theorem dX0_near_25 : decode cX0_near 25 = .ok (.iconst (-1), 1) := dk_2 (dk_at dksX0_near_1 3 rfl rfl)
theorem dX0_near_26 : decode cX0_near 26 = .ok (.ireturn, 1) := dk_172 (dk_at dksX0_near_1 4 rfl rfl)
theorem dX0_near_27 : decode cX0_near 27 = .ok (.aload_n 0, 1) := dk_42 (dk_at dksX0_near_1 5 rfl rfl)
theorem dX0_near_28 : decode cX0_near 28 = .ok (.invokevirtual 547, 3) := dk_182 2 35 (dk_at dksX0_near_1 6 rfl rfl)
theorem dX0_near_31 : decode cX0_near 31 = .ok (.bipush 96, 2) := dk_16 96 (dk_at dksX0_near_1 9 rfl rfl)
theorem dX0_near_33 : decode cX0_near 33 = .ok (.istore 4, 2) := dk_54 4 (dk_at dksX0_near_1 11 rfl rfl)
theorem dX0_near_35 : decode cX0_near 35 = .ok (.bipush (-4), 2) := dk_16 252 (dk_at dksX0_near_1 13 rfl rfl)
theorem dX0_near_37 : decode cX0_near 37 = .ok (.istore 5, 2) := dk_54 5 (dk_at dksX0_near_1 15 rfl rfl)
theorem dX0_near_39 : decode cX0_near 39 = .ok (.iconst 0, 1) := dk_3 (dk_at dksX0_near_1 17 rfl rfl)
theorem dX0_near_40 : decode cX0_near 40 = .ok (.istore 6, 2) := dk_54 6 (dk_at dksX0_near_1 18 rfl rfl)
theorem dX0_near_42 : decode cX0_near 42 = .ok (.iload 6, 2) := dk_21 6 (dk_at dksX0_near_1 20 rfl rfl)
theorem dX0_near_44 : decode cX0_near 44 = .ok (.aload_n 0, 1) := dk_42 (dk_at dksX0_near_1 22 rfl rfl)
theorem dX0_near_45 : decode cX0_near 45 = .ok (.getfield 405, 3) := dk_180 1 149 (dk_at dksX0_near_2 0 rfl rfl)
theorem dX0_near_48 : decode cX0_near 48 = .ok (.if_icmp .ge 71, 3) := dk_162 0 71 (dk_at dksX0_near_2 3 rfl rfl)
theorem dX0_near_51 : decode cX0_near 51 = .ok (.aload_n 0, 1) := dk_42 (dk_at dksX0_near_2 6 rfl rfl)
theorem dX0_near_52 : decode cX0_near 52 = .ok (.getfield 176, 3) := dk_180 0 176 (dk_at dksX0_near_2 7 rfl rfl)
theorem dX0_near_55 : decode cX0_near 55 = .ok (.iload 6, 2) := dk_21 6 (dk_at dksX0_near_2 10 rfl rfl)
theorem dX0_near_57 : decode cX0_near 57 = .ok (.aaload, 1) := dk_50 (dk_at dksX0_near_2 12 rfl rfl)
theorem dX0_near_58 : decode cX0_near 58 = .ok (.getfield 429, 3) := dk_180 1 173 (dk_at dksX0_near_2 13 rfl rfl)
theorem dX0_near_61 : decode cX0_near 61 = .ok (.ifCond .ne 52, 3) := dk_154 0 52 (dk_at dksX0_near_2 16 rfl rfl)
theorem dX0_near_64 : decode cX0_near 64 = .ok (.aload_n 0, 1) := dk_42 (dk_at dksX0_near_2 19 rfl rfl)
theorem dX0_near_65 : decode cX0_near 65 = .ok (.iconst 0, 1) := dk_3 (dk_at dksX0_near_2 20 rfl rfl)
theorem dX0_near_66 : decode cX0_near 66 = .ok (.aload_n 0, 1) := dk_42 (dk_at dksX0_near_2 21 rfl rfl)
theorem dX0_near_67 : decode cX0_near 67 = .ok (.getfield 176, 3) := dk_180 0 176 (dk_at dksX0_near_3 0 rfl rfl)
theorem dX0_near_70 : decode cX0_near 70 = .ok (.iload 6, 2) := dk_21 6 (dk_at dksX0_near_3 3 rfl rfl)
theorem dX0_near_72 : decode cX0_near 72 = .ok (.aaload, 1) := dk_50 (dk_at dksX0_near_3 5 rfl rfl)
theorem dX0_near_73 : decode cX0_near 73 = .ok (.getfield 422, 3) := dk_180 1 166 (dk_at dksX0_near_3 6 rfl rfl)
theorem dX0_near_76 : decode cX0_near 76 = .ok (.iload_n 2, 1) := dk_28 (dk_at dksX0_near_3 9 rfl rfl)
theorem dX0_near_77 : decode cX0_near 77 = .ok (.invokevirtual 325, 3) := dk_182 1 69 (dk_at dksX0_near_3 10 rfl rfl)
theorem dX0_near_80 : decode cX0_near 80 = .ok (.aload_n 0, 1) := dk_42 (dk_at dksX0_near_3 13 rfl rfl)
theorem dX0_near_81 : decode cX0_near 81 = .ok (.getfield 154, 3) := dk_180 0 154 (dk_at dksX0_near_3 14 rfl rfl)
theorem dX0_near_84 : decode cX0_near 84 = .ok (.iload_n 1, 1) := dk_27 (dk_at dksX0_near_3 17 rfl rfl)
theorem dX0_near_85 : decode cX0_near 85 = .ok (.iaload, 1) := dk_46 (dk_at dksX0_near_3 18 rfl rfl)
theorem dX0_near_86 : decode cX0_near 86 = .ok (.iload 4, 2) := dk_21 4 (dk_at dksX0_near_3 19 rfl rfl)
theorem dX0_near_88 : decode cX0_near 88 = .ok (.if_icmp .ge 8, 3) := dk_162 0 8 (dk_at dksX0_near_3 21 rfl rfl)
theorem dX0_near_91 : decode cX0_near 91 = .ok (.iload 6, 2) := dk_21 6 (dk_at dksX0_near_4 0 rfl rfl)
theorem dX0_near_93 : decode cX0_near 93 = .ok (.goto 5, 3) := dk_167 0 5 (dk_at dksX0_near_4 2 rfl rfl)
theorem dX0_near_96 : decode cX0_near 96 = .ok (.iload 5, 2) := dk_21 5 (dk_at dksX0_near_4 5 rfl rfl)
theorem dX0_near_98 : decode cX0_near 98 = .ok (.istore 5, 2) := dk_54 5 (dk_at dksX0_near_4 7 rfl rfl)
theorem dX0_near_100 : decode cX0_near 100 = .ok (.iload 4, 2) := dk_21 4 (dk_at dksX0_near_4 9 rfl rfl)
theorem dX0_near_102 : decode cX0_near 102 = .ok (.aload_n 0, 1) := dk_42 (dk_at dksX0_near_4 11 rfl rfl)
theorem dX0_near_103 : decode cX0_near 103 = .ok (.getfield 154, 3) := dk_180 0 154 (dk_at dksX0_near_4 12 rfl rfl)
theorem dX0_near_106 : decode cX0_near 106 = .ok (.iload_n 1, 1) := dk_27 (dk_at dksX0_near_4 15 rfl rfl)
theorem dX0_near_107 : decode cX0_near 107 = .ok (.iaload, 1) := dk_46 (dk_at dksX0_near_4 16 rfl rfl)
theorem dX0_near_108 : decode cX0_near 108 = .ok (.invokestatic 280, 3) := dk_184 1 24 (dk_at dksX0_near_4 17 rfl rfl)
theorem dX0_near_111 : decode cX0_near 111 = .ok (.istore 4, 2) := dk_54 4 (dk_at dksX0_near_4 20 rfl rfl)
theorem dX0_near_113 : decode cX0_near 113 = .ok (.iinc 6 1, 3) := dk_132 6 1 (dk_at dksX0_near_5 0 rfl rfl)
theorem dX0_near_116 : decode cX0_near 116 = .ok (.goto (-74), 3) := dk_167 255 182 (dk_at dksX0_near_5 3 rfl rfl)
theorem dX0_near_119 : decode cX0_near 119 = .ok (.iconst 0, 1) := dk_3 (dk_at dksX0_near_5 6 rfl rfl)
theorem dX0_near_120 : decode cX0_near 120 = .ok (.istore 6, 2) := dk_54 6 (dk_at dksX0_near_5 7 rfl rfl)
theorem dX0_near_122 : decode cX0_near 122 = .ok (.iload 6, 2) := dk_21 6 (dk_at dksX0_near_5 9 rfl rfl)
theorem dX0_near_124 : decode cX0_near 124 = .ok (.aload_n 0, 1) := dk_42 (dk_at dksX0_near_5 11 rfl rfl)
theorem dX0_near_125 : decode cX0_near 125 = .ok (.getfield 479, 3) := dk_180 1 223 (dk_at dksX0_near_5 12 rfl rfl)
theorem dX0_near_128 : decode cX0_near 128 = .ok (.if_icmp .ge 89, 3) := dk_162 0 89 (dk_at dksX0_near_5 15 rfl rfl)
theorem dX0_near_131 : decode cX0_near 131 = .ok (.aload_n 0, 1) := dk_42 (dk_at dksX0_near_5 18 rfl rfl)
theorem dX0_near_132 : decode cX0_near 132 = .ok (.getfield 197, 3) := dk_180 0 197 (dk_at dksX0_near_5 19 rfl rfl)
theorem dX0_near_135 : decode cX0_near 135 = .ok (.iload 6, 2) := dk_21 6 (dk_at dksX0_near_5 22 rfl rfl)
theorem dX0_near_137 : decode cX0_near 137 = .ok (.aaload, 1) := dk_50 (dk_at dksX0_near_6 0 rfl rfl)
theorem dX0_near_138 : decode cX0_near 138 = .ok (.getfield 541, 3) := dk_180 2 29 (dk_at dksX0_near_6 1 rfl rfl)
theorem dX0_near_141 : decode cX0_near 141 = .ok (.iload_n 2, 1) := dk_28 (dk_at dksX0_near_6 4 rfl rfl)
theorem dX0_near_142 : decode cX0_near 142 = .ok (.iaload, 1) := dk_46 (dk_at dksX0_near_6 5 rfl rfl)
theorem dX0_near_143 : decode cX0_near 143 = .ok (.istore 7, 2) := dk_54 7 (dk_at dksX0_near_6 6 rfl rfl)
theorem dX0_near_145 : decode cX0_near 145 = .ok (.iload 7, 2) := dk_21 7 (dk_at dksX0_near_6 8 rfl rfl)
theorem dX0_near_147 : decode cX0_near 147 = .ok (.i2l, 1) := dk_133 (dk_at dksX0_near_6 10 rfl rfl)
theorem dX0_near_148 : decode cX0_near 148 = .ok (.lconst 0, 1) := dk_9 (dk_at dksX0_near_6 11 rfl rfl)
theorem dX0_near_149 : decode cX0_near 149 = .ok (.ldc2_w 550, 3) := dk_20 2 38 (dk_at dksX0_near_6 12 rfl rfl)
theorem dX0_near_152 : decode cX0_near 152 = .ok (.invokestatic 9, 3) := dk_184 0 9 (dk_at dksX0_near_6 15 rfl rfl)
theorem dX0_near_155 : decode cX0_near 155 = .ok (.ifCond .eq 56, 3) := dk_153 0 56 (dk_at dksX0_near_6 18 rfl rfl)
theorem dX0_near_158 : decode cX0_near 158 = .ok (.aload_n 0, 1) := dk_42 (dk_at dksX0_near_6 21 rfl rfl)
theorem dX0_near_159 : decode cX0_near 159 = .ok (.iload 7, 2) := dk_21 7 (dk_at dksX0_near_6 22 rfl rfl)
theorem dX0_near_161 : decode cX0_near 161 = .ok (.aload_n 0, 1) := dk_42 (dk_at dksX0_near_7 0 rfl rfl)
theorem dX0_near_162 : decode cX0_near 162 = .ok (.getfield 197, 3) := dk_180 0 197 (dk_at dksX0_near_7 1 rfl rfl)
theorem dX0_near_165 : decode cX0_near 165 = .ok (.iload 6, 2) := dk_21 6 (dk_at dksX0_near_7 4 rfl rfl)
theorem dX0_near_167 : decode cX0_near 167 = .ok (.aaload, 1) := dk_50 (dk_at dksX0_near_7 6 rfl rfl)
theorem dX0_near_168 : decode cX0_near 168 = .ok (.getfield 517, 3) := dk_180 2 5 (dk_at dksX0_near_7 7 rfl rfl)
theorem dX0_near_171 : decode cX0_near 171 = .ok (.iload_n 2, 1) := dk_28 (dk_at dksX0_near_7 10 rfl rfl)
theorem dX0_near_172 : decode cX0_near 172 = .ok (.invokevirtual 325, 3) := dk_182 1 69 (dk_at dksX0_near_7 11 rfl rfl)
theorem dX0_near_175 : decode cX0_near 175 = .ok (.aload_n 0, 1) := dk_42 (dk_at dksX0_near_7 14 rfl rfl)
theorem dX0_near_176 : decode cX0_near 176 = .ok (.getfield 154, 3) := dk_180 0 154 (dk_at dksX0_near_7 15 rfl rfl)
theorem dX0_near_179 : decode cX0_near 179 = .ok (.iload_n 1, 1) := dk_27 (dk_at dksX0_near_7 18 rfl rfl)
theorem dX0_near_180 : decode cX0_near 180 = .ok (.iaload, 1) := dk_46 (dk_at dksX0_near_7 19 rfl rfl)
theorem dX0_near_181 : decode cX0_near 181 = .ok (.iload 4, 2) := dk_21 4 (dk_at dksX0_near_7 20 rfl rfl)
theorem dX0_near_183 : decode cX0_near 183 = .ok (.if_icmp .ge 11, 3) := dk_162 0 11 (dk_at dksX0_near_8 0 rfl rfl)
theorem dX0_near_186 : decode cX0_near 186 = .ok (.bipush 100, 2) := dk_16 100 (dk_at dksX0_near_8 3 rfl rfl)
theorem dX0_near_188 : decode cX0_near 188 = .ok (.iload 6, 2) := dk_21 6 (dk_at dksX0_near_8 5 rfl rfl)
theorem dX0_near_190 : decode cX0_near 190 = .ok (.iadd, 1) := dk_96 (dk_at dksX0_near_8 7 rfl rfl)
theorem dX0_near_191 : decode cX0_near 191 = .ok (.goto 5, 3) := dk_167 0 5 (dk_at dksX0_near_8 8 rfl rfl)
theorem dX0_near_194 : decode cX0_near 194 = .ok (.iload 5, 2) := dk_21 5 (dk_at dksX0_near_8 11 rfl rfl)
theorem dX0_near_196 : decode cX0_near 196 = .ok (.istore 5, 2) := dk_54 5 (dk_at dksX0_near_8 13 rfl rfl)
theorem dX0_near_198 : decode cX0_near 198 = .ok (.iload 4, 2) := dk_21 4 (dk_at dksX0_near_8 15 rfl rfl)
theorem dX0_near_200 : decode cX0_near 200 = .ok (.aload_n 0, 1) := dk_42 (dk_at dksX0_near_8 17 rfl rfl)
theorem dX0_near_201 : decode cX0_near 201 = .ok (.getfield 154, 3) := dk_180 0 154 (dk_at dksX0_near_8 18 rfl rfl)
theorem dX0_near_204 : decode cX0_near 204 = .ok (.iload_n 1, 1) := dk_27 (dk_at dksX0_near_8 21 rfl rfl)
theorem dX0_near_205 : decode cX0_near 205 = .ok (.iaload, 1) := dk_46 (dk_at dksX0_near_8 22 rfl rfl)
theorem dX0_near_206 : decode cX0_near 206 = .ok (.invokestatic 280, 3) := dk_184 1 24 (dk_at dksX0_near_9 0 rfl rfl)
theorem dX0_near_209 : decode cX0_near 209 = .ok (.istore 4, 2) := dk_54 4 (dk_at dksX0_near_9 3 rfl rfl)
theorem dX0_near_211 : decode cX0_near 211 = .ok (.iinc 6 1, 3) := dk_132 6 1 (dk_at dksX0_near_9 5 rfl rfl)
theorem dX0_near_214 : decode cX0_near 214 = .ok (.goto (-92), 3) := dk_167 255 164 (dk_at dksX0_near_9 8 rfl rfl)
theorem dX0_near_217 : decode cX0_near 217 = .ok (.iload 5, 2) := dk_21 5 (dk_at dksX0_near_9 11 rfl rfl)
theorem dX0_near_219 : decode cX0_near 219 = .ok (.bipush (-4), 2) := dk_16 252 (dk_at dksX0_near_9 13 rfl rfl)
theorem dX0_near_221 : decode cX0_near 221 = .ok (.if_icmp .ne 8, 3) := dk_160 0 8 (dk_at dksX0_near_9 15 rfl rfl)
theorem dX0_near_224 : decode cX0_near 224 = .ok (.bipush (-4), 2) := dk_16 252 (dk_at dksX0_near_9 18 rfl rfl)
theorem dX0_near_226 : decode cX0_near 226 = .ok (.goto 14, 3) := dk_167 0 14 (dk_at dksX0_near_9 20 rfl rfl)
theorem dX0_near_229 : decode cX0_near 229 = .ok (.iload_n 3, 1) := dk_29 (dk_at dksX0_near_9 23 rfl rfl)
theorem dX0_near_230 : decode cX0_near 230 = .ok (.ifCond .ne 8, 3) := dk_154 0 8 (dk_at dksX0_near_10 0 rfl rfl)
theorem dX0_near_233 : decode cX0_near 233 = .ok (.iload 4, 2) := dk_21 4 (dk_at dksX0_near_10 3 rfl rfl)
theorem dX0_near_235 : decode cX0_near 235 = .ok (.goto 5, 3) := dk_167 0 5 (dk_at dksX0_near_10 5 rfl rfl)
theorem dX0_near_238 : decode cX0_near 238 = .ok (.iload 5, 2) := dk_21 5 (dk_at dksX0_near_10 8 rfl rfl)
theorem dX0_near_240 : decode cX0_near 240 = .ok (.ireturn, 1) := dk_172 (dk_at dksX0_near_10 10 rfl rfl)
abbrev cX0_entry : ByteArray := prog_1_method_77_code
def yX0_entry : MethodName := ⟨RX0, "entry", "(III)I"⟩
def dkwX0_entry_3 : List UInt8 := [180, 2, 40, 29, 79, 42, 89, 180, 2, 40, 4, 96, 181, 2, 40, 42, 180, 2, 40, 4, 100, 172]
abbrev dktX0_entry_3 : List UInt8 := dkwX0_entry_3 ++ []
def dkwX0_entry_2 : List UInt8 := [42, 180, 2, 40, 27, 79, 42, 180, 0, 213, 42, 180, 2, 40, 16, 6, 28, 96, 79, 42, 180, 0, 216, 42]
abbrev dktX0_entry_2 : List UInt8 := dkwX0_entry_2 ++ dktX0_entry_3
def dkwX0_entry_1 : List UInt8 := [184, 0, 9, 154, 0, 5, 2, 172, 42, 180, 2, 40, 16, 14, 160, 0, 6, 16, 253, 172, 42, 180, 0, 210]
abbrev dktX0_entry_1 : List UInt8 := dkwX0_entry_1 ++ dktX0_entry_2
def dkwX0_entry_0 : List UInt8 := [42, 27, 182, 0, 104, 153, 0, 23, 42, 28, 182, 1, 157, 153, 0, 15, 29, 133, 10, 20, 0, 19]
abbrev dktX0_entry_0 : List UInt8 := dkwX0_entry_0 ++ dktX0_entry_1
theorem dksX0_entry_0 : cX0_entry.data.toList.drop 0 = dktX0_entry_0 := by decide +kernel
theorem dksX0_entry_1 : cX0_entry.data.toList.drop 22 = dktX0_entry_1 := dk_seg dksX0_entry_0 22 rfl rfl
theorem dksX0_entry_2 : cX0_entry.data.toList.drop 46 = dktX0_entry_2 := dk_seg dksX0_entry_1 24 rfl rfl
theorem dksX0_entry_3 : cX0_entry.data.toList.drop 70 = dktX0_entry_3 := dk_seg dksX0_entry_2 24 rfl rfl
theorem dX0_entry_0 : decode cX0_entry 0 = .ok (.aload_n 0, 1) := dk_42 (dk_at dksX0_entry_0 0 rfl rfl)
theorem dX0_entry_1 : decode cX0_entry 1 = .ok (.iload_n 1, 1) := dk_27 (dk_at dksX0_entry_0 1 rfl rfl)
theorem dX0_entry_2 : decode cX0_entry 2 = .ok (.invokevirtual 104, 3) := dk_182 0 104 (dk_at dksX0_entry_0 2 rfl rfl)
theorem dX0_entry_5 : decode cX0_entry 5 = .ok (.ifCond .eq 23, 3) := dk_153 0 23 (dk_at dksX0_entry_0 5 rfl rfl)
theorem dX0_entry_8 : decode cX0_entry 8 = .ok (.aload_n 0, 1) := dk_42 (dk_at dksX0_entry_0 8 rfl rfl)
theorem dX0_entry_9 : decode cX0_entry 9 = .ok (.iload_n 2, 1) := dk_28 (dk_at dksX0_entry_0 9 rfl rfl)
theorem dX0_entry_10 : decode cX0_entry 10 = .ok (.invokevirtual 413, 3) := dk_182 1 157 (dk_at dksX0_entry_0 10 rfl rfl)
theorem dX0_entry_13 : decode cX0_entry 13 = .ok (.ifCond .eq 15, 3) := dk_153 0 15 (dk_at dksX0_entry_0 13 rfl rfl)
theorem dX0_entry_16 : decode cX0_entry 16 = .ok (.iload_n 3, 1) := dk_29 (dk_at dksX0_entry_0 16 rfl rfl)
theorem dX0_entry_17 : decode cX0_entry 17 = .ok (.i2l, 1) := dk_133 (dk_at dksX0_entry_0 17 rfl rfl)
theorem dX0_entry_18 : decode cX0_entry 18 = .ok (.lconst 1, 1) := dk_10 (dk_at dksX0_entry_0 18 rfl rfl)
theorem dX0_entry_19 : decode cX0_entry 19 = .ok (.ldc2_w 19, 3) := dk_20 0 19 (dk_at dksX0_entry_0 19 rfl rfl)
theorem dX0_entry_22 : decode cX0_entry 22 = .ok (.invokestatic 9, 3) := dk_184 0 9 (dk_at dksX0_entry_1 0 rfl rfl)
theorem dX0_entry_25 : decode cX0_entry 25 = .ok (.ifCond .ne 5, 3) := dk_154 0 5 (dk_at dksX0_entry_1 3 rfl rfl)
theorem dX0_entry_28 : decode cX0_entry 28 = .ok (.iconst (-1), 1) := dk_2 (dk_at dksX0_entry_1 6 rfl rfl)
theorem dX0_entry_29 : decode cX0_entry 29 = .ok (.ireturn, 1) := dk_172 (dk_at dksX0_entry_1 7 rfl rfl)
theorem dX0_entry_30 : decode cX0_entry 30 = .ok (.aload_n 0, 1) := dk_42 (dk_at dksX0_entry_1 8 rfl rfl)
theorem dX0_entry_31 : decode cX0_entry 31 = .ok (.getfield 552, 3) := dk_180 2 40 (dk_at dksX0_entry_1 9 rfl rfl)
theorem dX0_entry_34 : decode cX0_entry 34 = .ok (.bipush 14, 2) := dk_16 14 (dk_at dksX0_entry_1 12 rfl rfl)
theorem dX0_entry_36 : decode cX0_entry 36 = .ok (.if_icmp .ne 6, 3) := dk_160 0 6 (dk_at dksX0_entry_1 14 rfl rfl)
theorem dX0_entry_39 : decode cX0_entry 39 = .ok (.bipush (-3), 2) := dk_16 253 (dk_at dksX0_entry_1 17 rfl rfl)
theorem dX0_entry_41 : decode cX0_entry 41 = .ok (.ireturn, 1) := dk_172 (dk_at dksX0_entry_1 19 rfl rfl)
theorem dX0_entry_42 : decode cX0_entry 42 = .ok (.aload_n 0, 1) := dk_42 (dk_at dksX0_entry_1 20 rfl rfl)
theorem dX0_entry_43 : decode cX0_entry 43 = .ok (.getfield 210, 3) := dk_180 0 210 (dk_at dksX0_entry_1 21 rfl rfl)
theorem dX0_entry_46 : decode cX0_entry 46 = .ok (.aload_n 0, 1) := dk_42 (dk_at dksX0_entry_2 0 rfl rfl)
theorem dX0_entry_47 : decode cX0_entry 47 = .ok (.getfield 552, 3) := dk_180 2 40 (dk_at dksX0_entry_2 1 rfl rfl)
theorem dX0_entry_50 : decode cX0_entry 50 = .ok (.iload_n 1, 1) := dk_27 (dk_at dksX0_entry_2 4 rfl rfl)
theorem dX0_entry_51 : decode cX0_entry 51 = .ok (.iastore, 1) := dk_79 (dk_at dksX0_entry_2 5 rfl rfl)
theorem dX0_entry_52 : decode cX0_entry 52 = .ok (.aload_n 0, 1) := dk_42 (dk_at dksX0_entry_2 6 rfl rfl)
theorem dX0_entry_53 : decode cX0_entry 53 = .ok (.getfield 213, 3) := dk_180 0 213 (dk_at dksX0_entry_2 7 rfl rfl)
theorem dX0_entry_56 : decode cX0_entry 56 = .ok (.aload_n 0, 1) := dk_42 (dk_at dksX0_entry_2 10 rfl rfl)
theorem dX0_entry_57 : decode cX0_entry 57 = .ok (.getfield 552, 3) := dk_180 2 40 (dk_at dksX0_entry_2 11 rfl rfl)
theorem dX0_entry_60 : decode cX0_entry 60 = .ok (.bipush 6, 2) := dk_16 6 (dk_at dksX0_entry_2 14 rfl rfl)
theorem dX0_entry_62 : decode cX0_entry 62 = .ok (.iload_n 2, 1) := dk_28 (dk_at dksX0_entry_2 16 rfl rfl)
theorem dX0_entry_63 : decode cX0_entry 63 = .ok (.iadd, 1) := dk_96 (dk_at dksX0_entry_2 17 rfl rfl)
theorem dX0_entry_64 : decode cX0_entry 64 = .ok (.iastore, 1) := dk_79 (dk_at dksX0_entry_2 18 rfl rfl)
theorem dX0_entry_65 : decode cX0_entry 65 = .ok (.aload_n 0, 1) := dk_42 (dk_at dksX0_entry_2 19 rfl rfl)
theorem dX0_entry_66 : decode cX0_entry 66 = .ok (.getfield 216, 3) := dk_180 0 216 (dk_at dksX0_entry_2 20 rfl rfl)
theorem dX0_entry_69 : decode cX0_entry 69 = .ok (.aload_n 0, 1) := dk_42 (dk_at dksX0_entry_2 23 rfl rfl)
theorem dX0_entry_70 : decode cX0_entry 70 = .ok (.getfield 552, 3) := dk_180 2 40 (dk_at dksX0_entry_3 0 rfl rfl)
theorem dX0_entry_73 : decode cX0_entry 73 = .ok (.iload_n 3, 1) := dk_29 (dk_at dksX0_entry_3 3 rfl rfl)
theorem dX0_entry_74 : decode cX0_entry 74 = .ok (.iastore, 1) := dk_79 (dk_at dksX0_entry_3 4 rfl rfl)
theorem dX0_entry_75 : decode cX0_entry 75 = .ok (.aload_n 0, 1) := dk_42 (dk_at dksX0_entry_3 5 rfl rfl)
theorem dX0_entry_76 : decode cX0_entry 76 = .ok (.dup, 1) := dk_89 (dk_at dksX0_entry_3 6 rfl rfl)
theorem dX0_entry_77 : decode cX0_entry 77 = .ok (.getfield 552, 3) := dk_180 2 40 (dk_at dksX0_entry_3 7 rfl rfl)
theorem dX0_entry_80 : decode cX0_entry 80 = .ok (.iconst 1, 1) := dk_4 (dk_at dksX0_entry_3 10 rfl rfl)
theorem dX0_entry_81 : decode cX0_entry 81 = .ok (.iadd, 1) := dk_96 (dk_at dksX0_entry_3 11 rfl rfl)
theorem dX0_entry_82 : decode cX0_entry 82 = .ok (.putfield 552, 3) := dk_181 2 40 (dk_at dksX0_entry_3 12 rfl rfl)
theorem dX0_entry_85 : decode cX0_entry 85 = .ok (.aload_n 0, 1) := dk_42 (dk_at dksX0_entry_3 15 rfl rfl)
theorem dX0_entry_86 : decode cX0_entry 86 = .ok (.getfield 552, 3) := dk_180 2 40 (dk_at dksX0_entry_3 16 rfl rfl)
theorem dX0_entry_89 : decode cX0_entry 89 = .ok (.iconst 1, 1) := dk_4 (dk_at dksX0_entry_3 19 rfl rfl)
theorem dX0_entry_90 : decode cX0_entry 90 = .ok (.isub, 1) := dk_100 (dk_at dksX0_entry_3 20 rfl rfl)
theorem dX0_entry_91 : decode cX0_entry 91 = .ok (.ireturn, 1) := dk_172 (dk_at dksX0_entry_3 21 rfl rfl)
abbrev cX0_grade : ByteArray := prog_1_method_82_code
def yX0_grade : MethodName := ⟨RX0, "grade", "(III)J"⟩
def dkwX0_grade_4 : List UInt8 := [42, 180, 2, 47, 29, 184, 2, 65, 173]
abbrev dktX0_grade_4 : List UInt8 := dkwX0_grade_4 ++ []
def dkwX0_grade_3 : List UInt8 := [21, 4, 46, 16, 252, 160, 0, 7, 20, 2, 57, 173, 42, 21, 4, 182, 2, 59, 42, 21, 4, 182, 2, 62]
abbrev dktX0_grade_3 : List UInt8 := dkwX0_grade_3 ++ dktX0_grade_4
def dkwX0_grade_2 : List UInt8 := [173, 27, 154, 0, 7, 28, 167, 0, 7, 16, 6, 28, 96, 54, 4, 42, 182, 2, 43, 42, 180, 0, 219]
abbrev dktX0_grade_2 : List UInt8 := dkwX0_grade_2 ++ dktX0_grade_3
def dkwX0_grade_1 : List UInt8 := [167, 0, 11, 42, 28, 182, 1, 157, 153, 0, 13, 29, 133, 9, 10, 184, 0, 9, 154, 0, 7, 20, 2, 55]
abbrev dktX0_grade_1 : List UInt8 := dkwX0_grade_1 ++ dktX0_grade_2
def dkwX0_grade_0 : List UInt8 := [27, 133, 9, 10, 184, 0, 9, 153, 0, 36, 27, 154, 0, 14, 42, 28, 182, 0, 104, 153, 0, 24]
abbrev dktX0_grade_0 : List UInt8 := dkwX0_grade_0 ++ dktX0_grade_1
theorem dksX0_grade_0 : cX0_grade.data.toList.drop 0 = dktX0_grade_0 := by decide +kernel
theorem dksX0_grade_1 : cX0_grade.data.toList.drop 22 = dktX0_grade_1 := dk_seg dksX0_grade_0 22 rfl rfl
theorem dksX0_grade_2 : cX0_grade.data.toList.drop 46 = dktX0_grade_2 := dk_seg dksX0_grade_1 24 rfl rfl
theorem dksX0_grade_3 : cX0_grade.data.toList.drop 69 = dktX0_grade_3 := dk_seg dksX0_grade_2 23 rfl rfl
theorem dksX0_grade_4 : cX0_grade.data.toList.drop 93 = dktX0_grade_4 := dk_seg dksX0_grade_3 24 rfl rfl
theorem dX0_grade_0 : decode cX0_grade 0 = .ok (.iload_n 1, 1) := dk_27 (dk_at dksX0_grade_0 0 rfl rfl)
theorem dX0_grade_1 : decode cX0_grade 1 = .ok (.i2l, 1) := dk_133 (dk_at dksX0_grade_0 1 rfl rfl)
theorem dX0_grade_2 : decode cX0_grade 2 = .ok (.lconst 0, 1) := dk_9 (dk_at dksX0_grade_0 2 rfl rfl)
theorem dX0_grade_3 : decode cX0_grade 3 = .ok (.lconst 1, 1) := dk_10 (dk_at dksX0_grade_0 3 rfl rfl)
theorem dX0_grade_4 : decode cX0_grade 4 = .ok (.invokestatic 9, 3) := dk_184 0 9 (dk_at dksX0_grade_0 4 rfl rfl)
theorem dX0_grade_7 : decode cX0_grade 7 = .ok (.ifCond .eq 36, 3) := dk_153 0 36 (dk_at dksX0_grade_0 7 rfl rfl)
theorem dX0_grade_10 : decode cX0_grade 10 = .ok (.iload_n 1, 1) := dk_27 (dk_at dksX0_grade_0 10 rfl rfl)
theorem dX0_grade_11 : decode cX0_grade 11 = .ok (.ifCond .ne 14, 3) := dk_154 0 14 (dk_at dksX0_grade_0 11 rfl rfl)
theorem dX0_grade_14 : decode cX0_grade 14 = .ok (.aload_n 0, 1) := dk_42 (dk_at dksX0_grade_0 14 rfl rfl)
theorem dX0_grade_15 : decode cX0_grade 15 = .ok (.iload_n 2, 1) := dk_28 (dk_at dksX0_grade_0 15 rfl rfl)
theorem dX0_grade_16 : decode cX0_grade 16 = .ok (.invokevirtual 104, 3) := dk_182 0 104 (dk_at dksX0_grade_0 16 rfl rfl)
theorem dX0_grade_19 : decode cX0_grade 19 = .ok (.ifCond .eq 24, 3) := dk_153 0 24 (dk_at dksX0_grade_0 19 rfl rfl)
theorem dX0_grade_22 : decode cX0_grade 22 = .ok (.goto 11, 3) := dk_167 0 11 (dk_at dksX0_grade_1 0 rfl rfl)
theorem dX0_grade_25 : decode cX0_grade 25 = .ok (.aload_n 0, 1) := dk_42 (dk_at dksX0_grade_1 3 rfl rfl)
theorem dX0_grade_26 : decode cX0_grade 26 = .ok (.iload_n 2, 1) := dk_28 (dk_at dksX0_grade_1 4 rfl rfl)
theorem dX0_grade_27 : decode cX0_grade 27 = .ok (.invokevirtual 413, 3) := dk_182 1 157 (dk_at dksX0_grade_1 5 rfl rfl)
theorem dX0_grade_30 : decode cX0_grade 30 = .ok (.ifCond .eq 13, 3) := dk_153 0 13 (dk_at dksX0_grade_1 8 rfl rfl)
theorem dX0_grade_33 : decode cX0_grade 33 = .ok (.iload_n 3, 1) := dk_29 (dk_at dksX0_grade_1 11 rfl rfl)
theorem dX0_grade_34 : decode cX0_grade 34 = .ok (.i2l, 1) := dk_133 (dk_at dksX0_grade_1 12 rfl rfl)
theorem dX0_grade_35 : decode cX0_grade 35 = .ok (.lconst 0, 1) := dk_9 (dk_at dksX0_grade_1 13 rfl rfl)
theorem dX0_grade_36 : decode cX0_grade 36 = .ok (.lconst 1, 1) := dk_10 (dk_at dksX0_grade_1 14 rfl rfl)
theorem dX0_grade_37 : decode cX0_grade 37 = .ok (.invokestatic 9, 3) := dk_184 0 9 (dk_at dksX0_grade_1 15 rfl rfl)
theorem dX0_grade_40 : decode cX0_grade 40 = .ok (.ifCond .ne 7, 3) := dk_154 0 7 (dk_at dksX0_grade_1 18 rfl rfl)
theorem dX0_grade_43 : decode cX0_grade 43 = .ok (.ldc2_w 567, 3) := dk_20 2 55 (dk_at dksX0_grade_1 21 rfl rfl)
theorem dX0_grade_46 : decode cX0_grade 46 = .ok (.lreturn, 1) := dk_173 (dk_at dksX0_grade_2 0 rfl rfl)
theorem dX0_grade_47 : decode cX0_grade 47 = .ok (.iload_n 1, 1) := dk_27 (dk_at dksX0_grade_2 1 rfl rfl)
theorem dX0_grade_48 : decode cX0_grade 48 = .ok (.ifCond .ne 7, 3) := dk_154 0 7 (dk_at dksX0_grade_2 2 rfl rfl)
theorem dX0_grade_51 : decode cX0_grade 51 = .ok (.iload_n 2, 1) := dk_28 (dk_at dksX0_grade_2 5 rfl rfl)
theorem dX0_grade_52 : decode cX0_grade 52 = .ok (.goto 7, 3) := dk_167 0 7 (dk_at dksX0_grade_2 6 rfl rfl)
theorem dX0_grade_55 : decode cX0_grade 55 = .ok (.bipush 6, 2) := dk_16 6 (dk_at dksX0_grade_2 9 rfl rfl)
theorem dX0_grade_57 : decode cX0_grade 57 = .ok (.iload_n 2, 1) := dk_28 (dk_at dksX0_grade_2 11 rfl rfl)
theorem dX0_grade_58 : decode cX0_grade 58 = .ok (.iadd, 1) := dk_96 (dk_at dksX0_grade_2 12 rfl rfl)
theorem dX0_grade_59 : decode cX0_grade 59 = .ok (.istore 4, 2) := dk_54 4 (dk_at dksX0_grade_2 13 rfl rfl)
theorem dX0_grade_61 : decode cX0_grade 61 = .ok (.aload_n 0, 1) := dk_42 (dk_at dksX0_grade_2 15 rfl rfl)
theorem dX0_grade_62 : decode cX0_grade 62 = .ok (.invokevirtual 555, 3) := dk_182 2 43 (dk_at dksX0_grade_2 16 rfl rfl)
theorem dX0_grade_65 : decode cX0_grade 65 = .ok (.aload_n 0, 1) := dk_42 (dk_at dksX0_grade_2 19 rfl rfl)
theorem dX0_grade_66 : decode cX0_grade 66 = .ok (.getfield 219, 3) := dk_180 0 219 (dk_at dksX0_grade_2 20 rfl rfl)
theorem dX0_grade_69 : decode cX0_grade 69 = .ok (.iload 4, 2) := dk_21 4 (dk_at dksX0_grade_3 0 rfl rfl)
theorem dX0_grade_71 : decode cX0_grade 71 = .ok (.iaload, 1) := dk_46 (dk_at dksX0_grade_3 2 rfl rfl)
theorem dX0_grade_72 : decode cX0_grade 72 = .ok (.bipush (-4), 2) := dk_16 252 (dk_at dksX0_grade_3 3 rfl rfl)
theorem dX0_grade_74 : decode cX0_grade 74 = .ok (.if_icmp .ne 7, 3) := dk_160 0 7 (dk_at dksX0_grade_3 5 rfl rfl)
theorem dX0_grade_77 : decode cX0_grade 77 = .ok (.ldc2_w 569, 3) := dk_20 2 57 (dk_at dksX0_grade_3 8 rfl rfl)
theorem dX0_grade_80 : decode cX0_grade 80 = .ok (.lreturn, 1) := dk_173 (dk_at dksX0_grade_3 11 rfl rfl)
theorem dX0_grade_81 : decode cX0_grade 81 = .ok (.aload_n 0, 1) := dk_42 (dk_at dksX0_grade_3 12 rfl rfl)
theorem dX0_grade_82 : decode cX0_grade 82 = .ok (.iload 4, 2) := dk_21 4 (dk_at dksX0_grade_3 13 rfl rfl)
theorem dX0_grade_84 : decode cX0_grade 84 = .ok (.invokevirtual 571, 3) := dk_182 2 59 (dk_at dksX0_grade_3 15 rfl rfl)
theorem dX0_grade_87 : decode cX0_grade 87 = .ok (.aload_n 0, 1) := dk_42 (dk_at dksX0_grade_3 18 rfl rfl)
theorem dX0_grade_88 : decode cX0_grade 88 = .ok (.iload 4, 2) := dk_21 4 (dk_at dksX0_grade_3 19 rfl rfl)
theorem dX0_grade_90 : decode cX0_grade 90 = .ok (.invokevirtual 574, 3) := dk_182 2 62 (dk_at dksX0_grade_3 21 rfl rfl)
theorem dX0_grade_93 : decode cX0_grade 93 = .ok (.aload_n 0, 1) := dk_42 (dk_at dksX0_grade_4 0 rfl rfl)
theorem dX0_grade_94 : decode cX0_grade 94 = .ok (.getfield 559, 3) := dk_180 2 47 (dk_at dksX0_grade_4 1 rfl rfl)
theorem dX0_grade_97 : decode cX0_grade 97 = .ok (.iload_n 3, 1) := dk_29 (dk_at dksX0_grade_4 4 rfl rfl)
theorem dX0_grade_98 : decode cX0_grade 98 = .ok (.invokestatic 577, 3) := dk_184 2 65 (dk_at dksX0_grade_4 5 rfl rfl)
theorem dX0_grade_101 : decode cX0_grade 101 = .ok (.lreturn, 1) := dk_173 (dk_at dksX0_grade_4 8 rfl rfl)
abbrev cX0_layPieces : ByteArray := prog_1_method_78_code
def yX0_layPieces : MethodName := ⟨RX0, "layPieces", "()V"⟩
def dkwX0_layPieces_6 : List UInt8 := [132, 2, 1, 167, 255, 195, 132, 1, 1, 167, 255, 181, 177]
abbrev dktX0_layPieces_6 : List UInt8 := dkwX0_layPieces_6 ++ []
def dkwX0_layPieces_5 : List UInt8 := [180, 0, 219, 42, 180, 0, 210, 28, 46, 29, 79, 42, 180, 0, 219, 42, 180, 0, 213, 28, 46, 29, 79]
abbrev dktX0_layPieces_5 : List UInt8 := dkwX0_layPieces_5 ++ dktX0_layPieces_6
def dkwX0_layPieces_4 : List UInt8 := [180, 0, 210, 28, 46, 46, 42, 180, 0, 219, 42, 180, 0, 213, 28, 46, 46, 184, 1, 24, 62, 42]
abbrev dktX0_layPieces_4 : List UInt8 := dkwX0_layPieces_4 ++ dktX0_layPieces_5
def dkwX0_layPieces_3 : List UInt8 := [3, 60, 27, 16, 14, 162, 0, 75, 3, 61, 28, 42, 180, 2, 40, 162, 0, 59, 42, 180, 0, 219, 42]
abbrev dktX0_layPieces_3 : List UInt8 := dkwX0_layPieces_3 ++ dktX0_layPieces_4
def dkwX0_layPieces_2 : List UInt8 := [79, 42, 180, 0, 219, 42, 180, 0, 213, 27, 46, 42, 180, 0, 213, 27, 46, 79, 132, 1, 1, 167, 255, 211]
abbrev dktX0_layPieces_2 : List UInt8 := dkwX0_layPieces_2 ++ dktX0_layPieces_3
def dkwX0_layPieces_1 : List UInt8 := [27, 42, 180, 2, 40, 162, 0, 43, 42, 180, 0, 219, 42, 180, 0, 210, 27, 46, 42, 180, 0, 210, 27, 46]
abbrev dktX0_layPieces_1 : List UInt8 := dkwX0_layPieces_1 ++ dktX0_layPieces_2
def dkwX0_layPieces_0 : List UInt8 := [3, 60, 27, 16, 14, 162, 0, 17, 42, 180, 0, 219, 27, 16, 252, 79, 132, 1, 1, 167, 255, 239, 3, 60]
abbrev dktX0_layPieces_0 : List UInt8 := dkwX0_layPieces_0 ++ dktX0_layPieces_1
theorem dksX0_layPieces_0 : cX0_layPieces.data.toList.drop 0 = dktX0_layPieces_0 := by decide +kernel
theorem dksX0_layPieces_1 : cX0_layPieces.data.toList.drop 24 = dktX0_layPieces_1 := dk_seg dksX0_layPieces_0 24 rfl rfl
theorem dksX0_layPieces_2 : cX0_layPieces.data.toList.drop 48 = dktX0_layPieces_2 := dk_seg dksX0_layPieces_1 24 rfl rfl
theorem dksX0_layPieces_3 : cX0_layPieces.data.toList.drop 72 = dktX0_layPieces_3 := dk_seg dksX0_layPieces_2 24 rfl rfl
theorem dksX0_layPieces_4 : cX0_layPieces.data.toList.drop 95 = dktX0_layPieces_4 := dk_seg dksX0_layPieces_3 23 rfl rfl
theorem dksX0_layPieces_5 : cX0_layPieces.data.toList.drop 117 = dktX0_layPieces_5 := dk_seg dksX0_layPieces_4 22 rfl rfl
theorem dksX0_layPieces_6 : cX0_layPieces.data.toList.drop 140 = dktX0_layPieces_6 := dk_seg dksX0_layPieces_5 23 rfl rfl
theorem dX0_layPieces_0 : decode cX0_layPieces 0 = .ok (.iconst 0, 1) := dk_3 (dk_at dksX0_layPieces_0 0 rfl rfl)
theorem dX0_layPieces_1 : decode cX0_layPieces 1 = .ok (.istore_n 1, 1) := dk_60 (dk_at dksX0_layPieces_0 1 rfl rfl)
theorem dX0_layPieces_2 : decode cX0_layPieces 2 = .ok (.iload_n 1, 1) := dk_27 (dk_at dksX0_layPieces_0 2 rfl rfl)
theorem dX0_layPieces_3 : decode cX0_layPieces 3 = .ok (.bipush 14, 2) := dk_16 14 (dk_at dksX0_layPieces_0 3 rfl rfl)
theorem dX0_layPieces_5 : decode cX0_layPieces 5 = .ok (.if_icmp .ge 17, 3) := dk_162 0 17 (dk_at dksX0_layPieces_0 5 rfl rfl)
theorem dX0_layPieces_8 : decode cX0_layPieces 8 = .ok (.aload_n 0, 1) := dk_42 (dk_at dksX0_layPieces_0 8 rfl rfl)
theorem dX0_layPieces_9 : decode cX0_layPieces 9 = .ok (.getfield 219, 3) := dk_180 0 219 (dk_at dksX0_layPieces_0 9 rfl rfl)
theorem dX0_layPieces_12 : decode cX0_layPieces 12 = .ok (.iload_n 1, 1) := dk_27 (dk_at dksX0_layPieces_0 12 rfl rfl)
theorem dX0_layPieces_13 : decode cX0_layPieces 13 = .ok (.bipush (-4), 2) := dk_16 252 (dk_at dksX0_layPieces_0 13 rfl rfl)
theorem dX0_layPieces_15 : decode cX0_layPieces 15 = .ok (.iastore, 1) := dk_79 (dk_at dksX0_layPieces_0 15 rfl rfl)
theorem dX0_layPieces_16 : decode cX0_layPieces 16 = .ok (.iinc 1 1, 3) := dk_132 1 1 (dk_at dksX0_layPieces_0 16 rfl rfl)
theorem dX0_layPieces_19 : decode cX0_layPieces 19 = .ok (.goto (-17), 3) := dk_167 255 239 (dk_at dksX0_layPieces_0 19 rfl rfl)
theorem dX0_layPieces_22 : decode cX0_layPieces 22 = .ok (.iconst 0, 1) := dk_3 (dk_at dksX0_layPieces_0 22 rfl rfl)
theorem dX0_layPieces_23 : decode cX0_layPieces 23 = .ok (.istore_n 1, 1) := dk_60 (dk_at dksX0_layPieces_0 23 rfl rfl)
theorem dX0_layPieces_24 : decode cX0_layPieces 24 = .ok (.iload_n 1, 1) := dk_27 (dk_at dksX0_layPieces_1 0 rfl rfl)
theorem dX0_layPieces_25 : decode cX0_layPieces 25 = .ok (.aload_n 0, 1) := dk_42 (dk_at dksX0_layPieces_1 1 rfl rfl)
theorem dX0_layPieces_26 : decode cX0_layPieces 26 = .ok (.getfield 552, 3) := dk_180 2 40 (dk_at dksX0_layPieces_1 2 rfl rfl)
theorem dX0_layPieces_29 : decode cX0_layPieces 29 = .ok (.if_icmp .ge 43, 3) := dk_162 0 43 (dk_at dksX0_layPieces_1 5 rfl rfl)
theorem dX0_layPieces_32 : decode cX0_layPieces 32 = .ok (.aload_n 0, 1) := dk_42 (dk_at dksX0_layPieces_1 8 rfl rfl)
theorem dX0_layPieces_33 : decode cX0_layPieces 33 = .ok (.getfield 219, 3) := dk_180 0 219 (dk_at dksX0_layPieces_1 9 rfl rfl)
theorem dX0_layPieces_36 : decode cX0_layPieces 36 = .ok (.aload_n 0, 1) := dk_42 (dk_at dksX0_layPieces_1 12 rfl rfl)
theorem dX0_layPieces_37 : decode cX0_layPieces 37 = .ok (.getfield 210, 3) := dk_180 0 210 (dk_at dksX0_layPieces_1 13 rfl rfl)
theorem dX0_layPieces_40 : decode cX0_layPieces 40 = .ok (.iload_n 1, 1) := dk_27 (dk_at dksX0_layPieces_1 16 rfl rfl)
theorem dX0_layPieces_41 : decode cX0_layPieces 41 = .ok (.iaload, 1) := dk_46 (dk_at dksX0_layPieces_1 17 rfl rfl)
theorem dX0_layPieces_42 : decode cX0_layPieces 42 = .ok (.aload_n 0, 1) := dk_42 (dk_at dksX0_layPieces_1 18 rfl rfl)
theorem dX0_layPieces_43 : decode cX0_layPieces 43 = .ok (.getfield 210, 3) := dk_180 0 210 (dk_at dksX0_layPieces_1 19 rfl rfl)
theorem dX0_layPieces_46 : decode cX0_layPieces 46 = .ok (.iload_n 1, 1) := dk_27 (dk_at dksX0_layPieces_1 22 rfl rfl)
theorem dX0_layPieces_47 : decode cX0_layPieces 47 = .ok (.iaload, 1) := dk_46 (dk_at dksX0_layPieces_1 23 rfl rfl)
theorem dX0_layPieces_48 : decode cX0_layPieces 48 = .ok (.iastore, 1) := dk_79 (dk_at dksX0_layPieces_2 0 rfl rfl)
theorem dX0_layPieces_49 : decode cX0_layPieces 49 = .ok (.aload_n 0, 1) := dk_42 (dk_at dksX0_layPieces_2 1 rfl rfl)
theorem dX0_layPieces_50 : decode cX0_layPieces 50 = .ok (.getfield 219, 3) := dk_180 0 219 (dk_at dksX0_layPieces_2 2 rfl rfl)
theorem dX0_layPieces_53 : decode cX0_layPieces 53 = .ok (.aload_n 0, 1) := dk_42 (dk_at dksX0_layPieces_2 5 rfl rfl)
theorem dX0_layPieces_54 : decode cX0_layPieces 54 = .ok (.getfield 213, 3) := dk_180 0 213 (dk_at dksX0_layPieces_2 6 rfl rfl)
theorem dX0_layPieces_57 : decode cX0_layPieces 57 = .ok (.iload_n 1, 1) := dk_27 (dk_at dksX0_layPieces_2 9 rfl rfl)
theorem dX0_layPieces_58 : decode cX0_layPieces 58 = .ok (.iaload, 1) := dk_46 (dk_at dksX0_layPieces_2 10 rfl rfl)
theorem dX0_layPieces_59 : decode cX0_layPieces 59 = .ok (.aload_n 0, 1) := dk_42 (dk_at dksX0_layPieces_2 11 rfl rfl)
theorem dX0_layPieces_60 : decode cX0_layPieces 60 = .ok (.getfield 213, 3) := dk_180 0 213 (dk_at dksX0_layPieces_2 12 rfl rfl)
theorem dX0_layPieces_63 : decode cX0_layPieces 63 = .ok (.iload_n 1, 1) := dk_27 (dk_at dksX0_layPieces_2 15 rfl rfl)
theorem dX0_layPieces_64 : decode cX0_layPieces 64 = .ok (.iaload, 1) := dk_46 (dk_at dksX0_layPieces_2 16 rfl rfl)
theorem dX0_layPieces_65 : decode cX0_layPieces 65 = .ok (.iastore, 1) := dk_79 (dk_at dksX0_layPieces_2 17 rfl rfl)
theorem dX0_layPieces_66 : decode cX0_layPieces 66 = .ok (.iinc 1 1, 3) := dk_132 1 1 (dk_at dksX0_layPieces_2 18 rfl rfl)
theorem dX0_layPieces_69 : decode cX0_layPieces 69 = .ok (.goto (-45), 3) := dk_167 255 211 (dk_at dksX0_layPieces_2 21 rfl rfl)
theorem dX0_layPieces_72 : decode cX0_layPieces 72 = .ok (.iconst 0, 1) := dk_3 (dk_at dksX0_layPieces_3 0 rfl rfl)
theorem dX0_layPieces_73 : decode cX0_layPieces 73 = .ok (.istore_n 1, 1) := dk_60 (dk_at dksX0_layPieces_3 1 rfl rfl)
theorem dX0_layPieces_74 : decode cX0_layPieces 74 = .ok (.iload_n 1, 1) := dk_27 (dk_at dksX0_layPieces_3 2 rfl rfl)
theorem dX0_layPieces_75 : decode cX0_layPieces 75 = .ok (.bipush 14, 2) := dk_16 14 (dk_at dksX0_layPieces_3 3 rfl rfl)
theorem dX0_layPieces_77 : decode cX0_layPieces 77 = .ok (.if_icmp .ge 75, 3) := dk_162 0 75 (dk_at dksX0_layPieces_3 5 rfl rfl)
theorem dX0_layPieces_80 : decode cX0_layPieces 80 = .ok (.iconst 0, 1) := dk_3 (dk_at dksX0_layPieces_3 8 rfl rfl)
theorem dX0_layPieces_81 : decode cX0_layPieces 81 = .ok (.istore_n 2, 1) := dk_61 (dk_at dksX0_layPieces_3 9 rfl rfl)
theorem dX0_layPieces_82 : decode cX0_layPieces 82 = .ok (.iload_n 2, 1) := dk_28 (dk_at dksX0_layPieces_3 10 rfl rfl)
theorem dX0_layPieces_83 : decode cX0_layPieces 83 = .ok (.aload_n 0, 1) := dk_42 (dk_at dksX0_layPieces_3 11 rfl rfl)
theorem dX0_layPieces_84 : decode cX0_layPieces 84 = .ok (.getfield 552, 3) := dk_180 2 40 (dk_at dksX0_layPieces_3 12 rfl rfl)
theorem dX0_layPieces_87 : decode cX0_layPieces 87 = .ok (.if_icmp .ge 59, 3) := dk_162 0 59 (dk_at dksX0_layPieces_3 15 rfl rfl)
theorem dX0_layPieces_90 : decode cX0_layPieces 90 = .ok (.aload_n 0, 1) := dk_42 (dk_at dksX0_layPieces_3 18 rfl rfl)
theorem dX0_layPieces_91 : decode cX0_layPieces 91 = .ok (.getfield 219, 3) := dk_180 0 219 (dk_at dksX0_layPieces_3 19 rfl rfl)
theorem dX0_layPieces_94 : decode cX0_layPieces 94 = .ok (.aload_n 0, 1) := dk_42 (dk_at dksX0_layPieces_3 22 rfl rfl)
theorem dX0_layPieces_95 : decode cX0_layPieces 95 = .ok (.getfield 210, 3) := dk_180 0 210 (dk_at dksX0_layPieces_4 0 rfl rfl)
theorem dX0_layPieces_98 : decode cX0_layPieces 98 = .ok (.iload_n 2, 1) := dk_28 (dk_at dksX0_layPieces_4 3 rfl rfl)
theorem dX0_layPieces_99 : decode cX0_layPieces 99 = .ok (.iaload, 1) := dk_46 (dk_at dksX0_layPieces_4 4 rfl rfl)
theorem dX0_layPieces_100 : decode cX0_layPieces 100 = .ok (.iaload, 1) := dk_46 (dk_at dksX0_layPieces_4 5 rfl rfl)
theorem dX0_layPieces_101 : decode cX0_layPieces 101 = .ok (.aload_n 0, 1) := dk_42 (dk_at dksX0_layPieces_4 6 rfl rfl)
theorem dX0_layPieces_102 : decode cX0_layPieces 102 = .ok (.getfield 219, 3) := dk_180 0 219 (dk_at dksX0_layPieces_4 7 rfl rfl)
theorem dX0_layPieces_105 : decode cX0_layPieces 105 = .ok (.aload_n 0, 1) := dk_42 (dk_at dksX0_layPieces_4 10 rfl rfl)
theorem dX0_layPieces_106 : decode cX0_layPieces 106 = .ok (.getfield 213, 3) := dk_180 0 213 (dk_at dksX0_layPieces_4 11 rfl rfl)
theorem dX0_layPieces_109 : decode cX0_layPieces 109 = .ok (.iload_n 2, 1) := dk_28 (dk_at dksX0_layPieces_4 14 rfl rfl)
theorem dX0_layPieces_110 : decode cX0_layPieces 110 = .ok (.iaload, 1) := dk_46 (dk_at dksX0_layPieces_4 15 rfl rfl)
theorem dX0_layPieces_111 : decode cX0_layPieces 111 = .ok (.iaload, 1) := dk_46 (dk_at dksX0_layPieces_4 16 rfl rfl)
theorem dX0_layPieces_112 : decode cX0_layPieces 112 = .ok (.invokestatic 280, 3) := dk_184 1 24 (dk_at dksX0_layPieces_4 17 rfl rfl)
theorem dX0_layPieces_115 : decode cX0_layPieces 115 = .ok (.istore_n 3, 1) := dk_62 (dk_at dksX0_layPieces_4 20 rfl rfl)
theorem dX0_layPieces_116 : decode cX0_layPieces 116 = .ok (.aload_n 0, 1) := dk_42 (dk_at dksX0_layPieces_4 21 rfl rfl)
theorem dX0_layPieces_117 : decode cX0_layPieces 117 = .ok (.getfield 219, 3) := dk_180 0 219 (dk_at dksX0_layPieces_5 0 rfl rfl)
theorem dX0_layPieces_120 : decode cX0_layPieces 120 = .ok (.aload_n 0, 1) := dk_42 (dk_at dksX0_layPieces_5 3 rfl rfl)
theorem dX0_layPieces_121 : decode cX0_layPieces 121 = .ok (.getfield 210, 3) := dk_180 0 210 (dk_at dksX0_layPieces_5 4 rfl rfl)
theorem dX0_layPieces_124 : decode cX0_layPieces 124 = .ok (.iload_n 2, 1) := dk_28 (dk_at dksX0_layPieces_5 7 rfl rfl)
theorem dX0_layPieces_125 : decode cX0_layPieces 125 = .ok (.iaload, 1) := dk_46 (dk_at dksX0_layPieces_5 8 rfl rfl)
theorem dX0_layPieces_126 : decode cX0_layPieces 126 = .ok (.iload_n 3, 1) := dk_29 (dk_at dksX0_layPieces_5 9 rfl rfl)
theorem dX0_layPieces_127 : decode cX0_layPieces 127 = .ok (.iastore, 1) := dk_79 (dk_at dksX0_layPieces_5 10 rfl rfl)
theorem dX0_layPieces_128 : decode cX0_layPieces 128 = .ok (.aload_n 0, 1) := dk_42 (dk_at dksX0_layPieces_5 11 rfl rfl)
theorem dX0_layPieces_129 : decode cX0_layPieces 129 = .ok (.getfield 219, 3) := dk_180 0 219 (dk_at dksX0_layPieces_5 12 rfl rfl)
theorem dX0_layPieces_132 : decode cX0_layPieces 132 = .ok (.aload_n 0, 1) := dk_42 (dk_at dksX0_layPieces_5 15 rfl rfl)
theorem dX0_layPieces_133 : decode cX0_layPieces 133 = .ok (.getfield 213, 3) := dk_180 0 213 (dk_at dksX0_layPieces_5 16 rfl rfl)
theorem dX0_layPieces_136 : decode cX0_layPieces 136 = .ok (.iload_n 2, 1) := dk_28 (dk_at dksX0_layPieces_5 19 rfl rfl)
theorem dX0_layPieces_137 : decode cX0_layPieces 137 = .ok (.iaload, 1) := dk_46 (dk_at dksX0_layPieces_5 20 rfl rfl)
theorem dX0_layPieces_138 : decode cX0_layPieces 138 = .ok (.iload_n 3, 1) := dk_29 (dk_at dksX0_layPieces_5 21 rfl rfl)
theorem dX0_layPieces_139 : decode cX0_layPieces 139 = .ok (.iastore, 1) := dk_79 (dk_at dksX0_layPieces_5 22 rfl rfl)
theorem dX0_layPieces_140 : decode cX0_layPieces 140 = .ok (.iinc 2 1, 3) := dk_132 2 1 (dk_at dksX0_layPieces_6 0 rfl rfl)
theorem dX0_layPieces_143 : decode cX0_layPieces 143 = .ok (.goto (-61), 3) := dk_167 255 195 (dk_at dksX0_layPieces_6 3 rfl rfl)
theorem dX0_layPieces_146 : decode cX0_layPieces 146 = .ok (.iinc 1 1, 3) := dk_132 1 1 (dk_at dksX0_layPieces_6 6 rfl rfl)
theorem dX0_layPieces_149 : decode cX0_layPieces 149 = .ok (.goto (-75), 3) := dk_167 255 181 (dk_at dksX0_layPieces_6 9 rfl rfl)
theorem dX0_layPieces_152 : decode cX0_layPieces 152 = .ok (.return_, 1) := dk_177 (dk_at dksX0_layPieces_6 12 rfl rfl)
abbrev cX0_solve : ByteArray := prog_1_method_79_code
def yX0_solve : MethodName := ⟨RX0, "solve", "(I)V"⟩
def dkwX0_solve_17 : List UInt8 := [177]
abbrev dktX0_solve_17 : List UInt8 := dkwX0_solve_17 ++ []
def dkwX0_solve_16 : List UInt8 := [132, 10, 1, 167, 255, 198, 132, 7, 1, 167, 255, 171, 42, 22, 5, 181, 2, 47, 132, 4, 1, 167, 255, 138]
abbrev dktX0_solve_16 : List UInt8 := dkwX0_solve_16 ++ dktX0_solve_17
def dkwX0_solve_15 : List UInt8 := [21, 10, 47, 105, 22, 8, 42, 180, 0, 227, 21, 4, 50, 21, 10, 47, 105, 101, 42, 180, 2, 47, 109, 80]
abbrev dktX0_solve_15 : List UInt8 := dkwX0_solve_15 ++ dktX0_solve_16
def dkwX0_solve_14 : List UInt8 := [21, 4, 159, 0, 51, 42, 180, 0, 227, 21, 7, 50, 21, 10, 22, 5, 42, 180, 0, 227, 21, 7, 50]
abbrev dktX0_solve_14 : List UInt8 := dkwX0_solve_14 ++ dktX0_solve_15
def dkwX0_solve_13 : List UInt8 := [42, 180, 0, 227, 21, 7, 50, 21, 4, 47, 55, 8, 3, 54, 10, 21, 10, 29, 163, 0, 58, 21, 7]
abbrev dktX0_solve_13 : List UInt8 := dkwX0_solve_13 ++ dktX0_solve_14
def dkwX0_solve_12 : List UInt8 := [162, 0, 118, 42, 180, 0, 227, 21, 4, 50, 21, 4, 47, 55, 5, 3, 54, 7, 21, 7, 29, 162, 0, 85]
abbrev dktX0_solve_12 : List UInt8 := dkwX0_solve_12 ++ dktX0_solve_13
def dkwX0_solve_11 : List UInt8 := [21, 5, 92, 47, 10, 97, 80, 132, 4, 1, 167, 255, 92, 42, 10, 181, 2, 47, 3, 54, 4, 21, 4, 29]
abbrev dktX0_solve_11 : List UInt8 := dkwX0_solve_11 ++ dktX0_solve_12
def dkwX0_solve_10 : List UInt8 := [133, 97, 80, 42, 180, 0, 227, 21, 5, 50, 21, 6, 92, 47, 10, 97, 80, 42, 180, 0, 227, 21, 6, 50]
abbrev dktX0_solve_10 : List UInt8 := dkwX0_solve_10 ++ dktX0_solve_11
def dkwX0_solve_9 : List UInt8 := [21, 6, 92, 47, 10, 97, 80, 42, 180, 0, 227, 21, 6, 50, 29, 92, 47, 42, 180, 0, 216, 21, 4, 46]
abbrev dktX0_solve_9 : List UInt8 := dkwX0_solve_9 ++ dktX0_solve_10
def dkwX0_solve_8 : List UInt8 := [180, 0, 216, 21, 4, 46, 133, 97, 80, 21, 6, 16, 252, 159, 0, 65, 42, 180, 0, 227, 21, 6, 50]
abbrev dktX0_solve_8 : List UInt8 := dkwX0_solve_8 ++ dktX0_solve_9
def dkwX0_solve_7 : List UInt8 := [180, 0, 227, 21, 5, 50, 21, 5, 92, 47, 10, 97, 80, 42, 180, 0, 227, 21, 5, 50, 29, 92, 47, 42]
abbrev dktX0_solve_7 : List UInt8 := dkwX0_solve_7 ++ dktX0_solve_8
def dkwX0_solve_6 : List UInt8 := [180, 0, 210, 21, 4, 46, 46, 54, 5, 42, 180, 0, 222, 42, 180, 0, 213, 21, 4, 46, 46, 54, 6, 42]
abbrev dktX0_solve_6 : List UInt8 := dkwX0_solve_6 ++ dktX0_solve_7
def dkwX0_solve_5 : List UInt8 := [42, 180, 0, 210, 21, 4, 46, 46, 42, 180, 0, 219, 27, 46, 160, 0, 134, 42, 180, 0, 222, 42]
abbrev dktX0_solve_5 : List UInt8 := dkwX0_solve_5 ++ dktX0_solve_6
def dkwX0_solve_4 : List UInt8 := [96, 197, 2, 46, 2, 181, 0, 227, 3, 54, 4, 21, 4, 42, 180, 2, 40, 162, 0, 161, 42, 180, 0, 219]
abbrev dktX0_solve_4 : List UInt8 := dkwX0_solve_4 ++ dktX0_solve_5
def dkwX0_solve_3 : List UInt8 := [159, 0, 14, 42, 180, 0, 222, 21, 4, 29, 79, 132, 3, 1, 132, 4, 1, 167, 255, 204, 42, 29, 29, 4]
abbrev dktX0_solve_3 : List UInt8 := dkwX0_solve_3 ++ dktX0_solve_4
def dkwX0_solve_2 : List UInt8 := [16, 252, 79, 42, 180, 0, 219, 21, 4, 46, 42, 180, 0, 219, 27, 46, 160, 0, 20, 21, 4, 28]
abbrev dktX0_solve_2 : List UInt8 := dkwX0_solve_2 ++ dktX0_solve_3
def dkwX0_solve_1 : List UInt8 := [132, 2, 1, 167, 255, 238, 3, 62, 3, 54, 4, 21, 4, 16, 14, 162, 0, 51, 42, 180, 0, 222, 21, 4]
abbrev dktX0_solve_1 : List UInt8 := dkwX0_solve_1 ++ dktX0_solve_2
def dkwX0_solve_0 : List UInt8 := [42, 182, 2, 43, 16, 6, 61, 42, 180, 0, 219, 28, 46, 42, 180, 0, 219, 27, 46, 159, 0, 9]
abbrev dktX0_solve_0 : List UInt8 := dkwX0_solve_0 ++ dktX0_solve_1
theorem dksX0_solve_0 : cX0_solve.data.toList.drop 0 = dktX0_solve_0 := by decide +kernel
theorem dksX0_solve_1 : cX0_solve.data.toList.drop 22 = dktX0_solve_1 := dk_seg dksX0_solve_0 22 rfl rfl
theorem dksX0_solve_2 : cX0_solve.data.toList.drop 46 = dktX0_solve_2 := dk_seg dksX0_solve_1 24 rfl rfl
theorem dksX0_solve_3 : cX0_solve.data.toList.drop 68 = dktX0_solve_3 := dk_seg dksX0_solve_2 22 rfl rfl
theorem dksX0_solve_4 : cX0_solve.data.toList.drop 92 = dktX0_solve_4 := dk_seg dksX0_solve_3 24 rfl rfl
theorem dksX0_solve_5 : cX0_solve.data.toList.drop 116 = dktX0_solve_5 := dk_seg dksX0_solve_4 24 rfl rfl
theorem dksX0_solve_6 : cX0_solve.data.toList.drop 138 = dktX0_solve_6 := dk_seg dksX0_solve_5 22 rfl rfl
theorem dksX0_solve_7 : cX0_solve.data.toList.drop 162 = dktX0_solve_7 := dk_seg dksX0_solve_6 24 rfl rfl
theorem dksX0_solve_8 : cX0_solve.data.toList.drop 186 = dktX0_solve_8 := dk_seg dksX0_solve_7 24 rfl rfl
theorem dksX0_solve_9 : cX0_solve.data.toList.drop 209 = dktX0_solve_9 := dk_seg dksX0_solve_8 23 rfl rfl
theorem dksX0_solve_10 : cX0_solve.data.toList.drop 233 = dktX0_solve_10 := dk_seg dksX0_solve_9 24 rfl rfl
theorem dksX0_solve_11 : cX0_solve.data.toList.drop 257 = dktX0_solve_11 := dk_seg dksX0_solve_10 24 rfl rfl
theorem dksX0_solve_12 : cX0_solve.data.toList.drop 281 = dktX0_solve_12 := dk_seg dksX0_solve_11 24 rfl rfl
theorem dksX0_solve_13 : cX0_solve.data.toList.drop 305 = dktX0_solve_13 := dk_seg dksX0_solve_12 24 rfl rfl
theorem dksX0_solve_14 : cX0_solve.data.toList.drop 328 = dktX0_solve_14 := dk_seg dksX0_solve_13 23 rfl rfl
theorem dksX0_solve_15 : cX0_solve.data.toList.drop 351 = dktX0_solve_15 := dk_seg dksX0_solve_14 23 rfl rfl
theorem dksX0_solve_16 : cX0_solve.data.toList.drop 375 = dktX0_solve_16 := dk_seg dksX0_solve_15 24 rfl rfl
theorem dksX0_solve_17 : cX0_solve.data.toList.drop 399 = dktX0_solve_17 := dk_seg dksX0_solve_16 24 rfl rfl
theorem dX0_solve_0 : decode cX0_solve 0 = .ok (.aload_n 0, 1) := dk_42 (dk_at dksX0_solve_0 0 rfl rfl)
theorem dX0_solve_1 : decode cX0_solve 1 = .ok (.invokevirtual 555, 3) := dk_182 2 43 (dk_at dksX0_solve_0 1 rfl rfl)
theorem dX0_solve_4 : decode cX0_solve 4 = .ok (.bipush 6, 2) := dk_16 6 (dk_at dksX0_solve_0 4 rfl rfl)
theorem dX0_solve_6 : decode cX0_solve 6 = .ok (.istore_n 2, 1) := dk_61 (dk_at dksX0_solve_0 6 rfl rfl)
theorem dX0_solve_7 : decode cX0_solve 7 = .ok (.aload_n 0, 1) := dk_42 (dk_at dksX0_solve_0 7 rfl rfl)
theorem dX0_solve_8 : decode cX0_solve 8 = .ok (.getfield 219, 3) := dk_180 0 219 (dk_at dksX0_solve_0 8 rfl rfl)
theorem dX0_solve_11 : decode cX0_solve 11 = .ok (.iload_n 2, 1) := dk_28 (dk_at dksX0_solve_0 11 rfl rfl)
theorem dX0_solve_12 : decode cX0_solve 12 = .ok (.iaload, 1) := dk_46 (dk_at dksX0_solve_0 12 rfl rfl)
theorem dX0_solve_13 : decode cX0_solve 13 = .ok (.aload_n 0, 1) := dk_42 (dk_at dksX0_solve_0 13 rfl rfl)
theorem dX0_solve_14 : decode cX0_solve 14 = .ok (.getfield 219, 3) := dk_180 0 219 (dk_at dksX0_solve_0 14 rfl rfl)
theorem dX0_solve_17 : decode cX0_solve 17 = .ok (.iload_n 1, 1) := dk_27 (dk_at dksX0_solve_0 17 rfl rfl)
theorem dX0_solve_18 : decode cX0_solve 18 = .ok (.iaload, 1) := dk_46 (dk_at dksX0_solve_0 18 rfl rfl)
theorem dX0_solve_19 : decode cX0_solve 19 = .ok (.if_icmp .eq 9, 3) := dk_159 0 9 (dk_at dksX0_solve_0 19 rfl rfl)
theorem dX0_solve_22 : decode cX0_solve 22 = .ok (.iinc 2 1, 3) := dk_132 2 1 (dk_at dksX0_solve_1 0 rfl rfl)
theorem dX0_solve_25 : decode cX0_solve 25 = .ok (.goto (-18), 3) := dk_167 255 238 (dk_at dksX0_solve_1 3 rfl rfl)
theorem dX0_solve_28 : decode cX0_solve 28 = .ok (.iconst 0, 1) := dk_3 (dk_at dksX0_solve_1 6 rfl rfl)
theorem dX0_solve_29 : decode cX0_solve 29 = .ok (.istore_n 3, 1) := dk_62 (dk_at dksX0_solve_1 7 rfl rfl)
theorem dX0_solve_30 : decode cX0_solve 30 = .ok (.iconst 0, 1) := dk_3 (dk_at dksX0_solve_1 8 rfl rfl)
theorem dX0_solve_31 : decode cX0_solve 31 = .ok (.istore 4, 2) := dk_54 4 (dk_at dksX0_solve_1 9 rfl rfl)
theorem dX0_solve_33 : decode cX0_solve 33 = .ok (.iload 4, 2) := dk_21 4 (dk_at dksX0_solve_1 11 rfl rfl)
theorem dX0_solve_35 : decode cX0_solve 35 = .ok (.bipush 14, 2) := dk_16 14 (dk_at dksX0_solve_1 13 rfl rfl)
theorem dX0_solve_37 : decode cX0_solve 37 = .ok (.if_icmp .ge 51, 3) := dk_162 0 51 (dk_at dksX0_solve_1 15 rfl rfl)
theorem dX0_solve_40 : decode cX0_solve 40 = .ok (.aload_n 0, 1) := dk_42 (dk_at dksX0_solve_1 18 rfl rfl)
theorem dX0_solve_41 : decode cX0_solve 41 = .ok (.getfield 222, 3) := dk_180 0 222 (dk_at dksX0_solve_1 19 rfl rfl)
theorem dX0_solve_44 : decode cX0_solve 44 = .ok (.iload 4, 2) := dk_21 4 (dk_at dksX0_solve_1 22 rfl rfl)
theorem dX0_solve_46 : decode cX0_solve 46 = .ok (.bipush (-4), 2) := dk_16 252 (dk_at dksX0_solve_2 0 rfl rfl)
theorem dX0_solve_48 : decode cX0_solve 48 = .ok (.iastore, 1) := dk_79 (dk_at dksX0_solve_2 2 rfl rfl)
theorem dX0_solve_49 : decode cX0_solve 49 = .ok (.aload_n 0, 1) := dk_42 (dk_at dksX0_solve_2 3 rfl rfl)
theorem dX0_solve_50 : decode cX0_solve 50 = .ok (.getfield 219, 3) := dk_180 0 219 (dk_at dksX0_solve_2 4 rfl rfl)
theorem dX0_solve_53 : decode cX0_solve 53 = .ok (.iload 4, 2) := dk_21 4 (dk_at dksX0_solve_2 7 rfl rfl)
theorem dX0_solve_55 : decode cX0_solve 55 = .ok (.iaload, 1) := dk_46 (dk_at dksX0_solve_2 9 rfl rfl)
theorem dX0_solve_56 : decode cX0_solve 56 = .ok (.aload_n 0, 1) := dk_42 (dk_at dksX0_solve_2 10 rfl rfl)
theorem dX0_solve_57 : decode cX0_solve 57 = .ok (.getfield 219, 3) := dk_180 0 219 (dk_at dksX0_solve_2 11 rfl rfl)
theorem dX0_solve_60 : decode cX0_solve 60 = .ok (.iload_n 1, 1) := dk_27 (dk_at dksX0_solve_2 14 rfl rfl)
theorem dX0_solve_61 : decode cX0_solve 61 = .ok (.iaload, 1) := dk_46 (dk_at dksX0_solve_2 15 rfl rfl)
theorem dX0_solve_62 : decode cX0_solve 62 = .ok (.if_icmp .ne 20, 3) := dk_160 0 20 (dk_at dksX0_solve_2 16 rfl rfl)
theorem dX0_solve_65 : decode cX0_solve 65 = .ok (.iload 4, 2) := dk_21 4 (dk_at dksX0_solve_2 19 rfl rfl)
theorem dX0_solve_67 : decode cX0_solve 67 = .ok (.iload_n 2, 1) := dk_28 (dk_at dksX0_solve_2 21 rfl rfl)
theorem dX0_solve_68 : decode cX0_solve 68 = .ok (.if_icmp .eq 14, 3) := dk_159 0 14 (dk_at dksX0_solve_3 0 rfl rfl)
theorem dX0_solve_71 : decode cX0_solve 71 = .ok (.aload_n 0, 1) := dk_42 (dk_at dksX0_solve_3 3 rfl rfl)
theorem dX0_solve_72 : decode cX0_solve 72 = .ok (.getfield 222, 3) := dk_180 0 222 (dk_at dksX0_solve_3 4 rfl rfl)
theorem dX0_solve_75 : decode cX0_solve 75 = .ok (.iload 4, 2) := dk_21 4 (dk_at dksX0_solve_3 7 rfl rfl)
theorem dX0_solve_77 : decode cX0_solve 77 = .ok (.iload_n 3, 1) := dk_29 (dk_at dksX0_solve_3 9 rfl rfl)
theorem dX0_solve_78 : decode cX0_solve 78 = .ok (.iastore, 1) := dk_79 (dk_at dksX0_solve_3 10 rfl rfl)
theorem dX0_solve_79 : decode cX0_solve 79 = .ok (.iinc 3 1, 3) := dk_132 3 1 (dk_at dksX0_solve_3 11 rfl rfl)
theorem dX0_solve_82 : decode cX0_solve 82 = .ok (.iinc 4 1, 3) := dk_132 4 1 (dk_at dksX0_solve_3 14 rfl rfl)
theorem dX0_solve_85 : decode cX0_solve 85 = .ok (.goto (-52), 3) := dk_167 255 204 (dk_at dksX0_solve_3 17 rfl rfl)
theorem dX0_solve_88 : decode cX0_solve 88 = .ok (.aload_n 0, 1) := dk_42 (dk_at dksX0_solve_3 20 rfl rfl)
theorem dX0_solve_89 : decode cX0_solve 89 = .ok (.iload_n 3, 1) := dk_29 (dk_at dksX0_solve_3 21 rfl rfl)
theorem dX0_solve_90 : decode cX0_solve 90 = .ok (.iload_n 3, 1) := dk_29 (dk_at dksX0_solve_3 22 rfl rfl)
theorem dX0_solve_91 : decode cX0_solve 91 = .ok (.iconst 1, 1) := dk_4 (dk_at dksX0_solve_3 23 rfl rfl)
theorem dX0_solve_92 : decode cX0_solve 92 = .ok (.iadd, 1) := dk_96 (dk_at dksX0_solve_4 0 rfl rfl)
theorem dX0_solve_93 : decode cX0_solve 93 = .ok (.multianewarray 558 2, 4) := by decide +kernel
theorem dX0_solve_97 : decode cX0_solve 97 = .ok (.putfield 227, 3) := dk_181 0 227 (dk_at dksX0_solve_4 5 rfl rfl)
theorem dX0_solve_100 : decode cX0_solve 100 = .ok (.iconst 0, 1) := dk_3 (dk_at dksX0_solve_4 8 rfl rfl)
theorem dX0_solve_101 : decode cX0_solve 101 = .ok (.istore 4, 2) := dk_54 4 (dk_at dksX0_solve_4 9 rfl rfl)
theorem dX0_solve_103 : decode cX0_solve 103 = .ok (.iload 4, 2) := dk_21 4 (dk_at dksX0_solve_4 11 rfl rfl)
theorem dX0_solve_105 : decode cX0_solve 105 = .ok (.aload_n 0, 1) := dk_42 (dk_at dksX0_solve_4 13 rfl rfl)
theorem dX0_solve_106 : decode cX0_solve 106 = .ok (.getfield 552, 3) := dk_180 2 40 (dk_at dksX0_solve_4 14 rfl rfl)
theorem dX0_solve_109 : decode cX0_solve 109 = .ok (.if_icmp .ge 161, 3) := dk_162 0 161 (dk_at dksX0_solve_4 17 rfl rfl)
theorem dX0_solve_112 : decode cX0_solve 112 = .ok (.aload_n 0, 1) := dk_42 (dk_at dksX0_solve_4 20 rfl rfl)
theorem dX0_solve_113 : decode cX0_solve 113 = .ok (.getfield 219, 3) := dk_180 0 219 (dk_at dksX0_solve_4 21 rfl rfl)
theorem dX0_solve_116 : decode cX0_solve 116 = .ok (.aload_n 0, 1) := dk_42 (dk_at dksX0_solve_5 0 rfl rfl)
theorem dX0_solve_117 : decode cX0_solve 117 = .ok (.getfield 210, 3) := dk_180 0 210 (dk_at dksX0_solve_5 1 rfl rfl)
theorem dX0_solve_120 : decode cX0_solve 120 = .ok (.iload 4, 2) := dk_21 4 (dk_at dksX0_solve_5 4 rfl rfl)
theorem dX0_solve_122 : decode cX0_solve 122 = .ok (.iaload, 1) := dk_46 (dk_at dksX0_solve_5 6 rfl rfl)
theorem dX0_solve_123 : decode cX0_solve 123 = .ok (.iaload, 1) := dk_46 (dk_at dksX0_solve_5 7 rfl rfl)
theorem dX0_solve_124 : decode cX0_solve 124 = .ok (.aload_n 0, 1) := dk_42 (dk_at dksX0_solve_5 8 rfl rfl)
theorem dX0_solve_125 : decode cX0_solve 125 = .ok (.getfield 219, 3) := dk_180 0 219 (dk_at dksX0_solve_5 9 rfl rfl)
theorem dX0_solve_128 : decode cX0_solve 128 = .ok (.iload_n 1, 1) := dk_27 (dk_at dksX0_solve_5 12 rfl rfl)
theorem dX0_solve_129 : decode cX0_solve 129 = .ok (.iaload, 1) := dk_46 (dk_at dksX0_solve_5 13 rfl rfl)
theorem dX0_solve_130 : decode cX0_solve 130 = .ok (.if_icmp .ne 134, 3) := dk_160 0 134 (dk_at dksX0_solve_5 14 rfl rfl)
theorem dX0_solve_133 : decode cX0_solve 133 = .ok (.aload_n 0, 1) := dk_42 (dk_at dksX0_solve_5 17 rfl rfl)
theorem dX0_solve_134 : decode cX0_solve 134 = .ok (.getfield 222, 3) := dk_180 0 222 (dk_at dksX0_solve_5 18 rfl rfl)
theorem dX0_solve_137 : decode cX0_solve 137 = .ok (.aload_n 0, 1) := dk_42 (dk_at dksX0_solve_5 21 rfl rfl)
theorem dX0_solve_138 : decode cX0_solve 138 = .ok (.getfield 210, 3) := dk_180 0 210 (dk_at dksX0_solve_6 0 rfl rfl)
theorem dX0_solve_141 : decode cX0_solve 141 = .ok (.iload 4, 2) := dk_21 4 (dk_at dksX0_solve_6 3 rfl rfl)
theorem dX0_solve_143 : decode cX0_solve 143 = .ok (.iaload, 1) := dk_46 (dk_at dksX0_solve_6 5 rfl rfl)
theorem dX0_solve_144 : decode cX0_solve 144 = .ok (.iaload, 1) := dk_46 (dk_at dksX0_solve_6 6 rfl rfl)
theorem dX0_solve_145 : decode cX0_solve 145 = .ok (.istore 5, 2) := dk_54 5 (dk_at dksX0_solve_6 7 rfl rfl)
theorem dX0_solve_147 : decode cX0_solve 147 = .ok (.aload_n 0, 1) := dk_42 (dk_at dksX0_solve_6 9 rfl rfl)
theorem dX0_solve_148 : decode cX0_solve 148 = .ok (.getfield 222, 3) := dk_180 0 222 (dk_at dksX0_solve_6 10 rfl rfl)
theorem dX0_solve_151 : decode cX0_solve 151 = .ok (.aload_n 0, 1) := dk_42 (dk_at dksX0_solve_6 13 rfl rfl)
theorem dX0_solve_152 : decode cX0_solve 152 = .ok (.getfield 213, 3) := dk_180 0 213 (dk_at dksX0_solve_6 14 rfl rfl)
theorem dX0_solve_155 : decode cX0_solve 155 = .ok (.iload 4, 2) := dk_21 4 (dk_at dksX0_solve_6 17 rfl rfl)
theorem dX0_solve_157 : decode cX0_solve 157 = .ok (.iaload, 1) := dk_46 (dk_at dksX0_solve_6 19 rfl rfl)
theorem dX0_solve_158 : decode cX0_solve 158 = .ok (.iaload, 1) := dk_46 (dk_at dksX0_solve_6 20 rfl rfl)
theorem dX0_solve_159 : decode cX0_solve 159 = .ok (.istore 6, 2) := dk_54 6 (dk_at dksX0_solve_6 21 rfl rfl)
theorem dX0_solve_161 : decode cX0_solve 161 = .ok (.aload_n 0, 1) := dk_42 (dk_at dksX0_solve_6 23 rfl rfl)
theorem dX0_solve_162 : decode cX0_solve 162 = .ok (.getfield 227, 3) := dk_180 0 227 (dk_at dksX0_solve_7 0 rfl rfl)
theorem dX0_solve_165 : decode cX0_solve 165 = .ok (.iload 5, 2) := dk_21 5 (dk_at dksX0_solve_7 3 rfl rfl)
theorem dX0_solve_167 : decode cX0_solve 167 = .ok (.aaload, 1) := dk_50 (dk_at dksX0_solve_7 5 rfl rfl)
theorem dX0_solve_168 : decode cX0_solve 168 = .ok (.iload 5, 2) := dk_21 5 (dk_at dksX0_solve_7 6 rfl rfl)
theorem dX0_solve_170 : decode cX0_solve 170 = .ok (.dup2, 1) := dk_92 (dk_at dksX0_solve_7 8 rfl rfl)
theorem dX0_solve_171 : decode cX0_solve 171 = .ok (.laload, 1) := dk_47 (dk_at dksX0_solve_7 9 rfl rfl)
theorem dX0_solve_172 : decode cX0_solve 172 = .ok (.lconst 1, 1) := dk_10 (dk_at dksX0_solve_7 10 rfl rfl)
theorem dX0_solve_173 : decode cX0_solve 173 = .ok (.ladd, 1) := dk_97 (dk_at dksX0_solve_7 11 rfl rfl)
theorem dX0_solve_174 : decode cX0_solve 174 = .ok (.lastore, 1) := dk_80 (dk_at dksX0_solve_7 12 rfl rfl)
theorem dX0_solve_175 : decode cX0_solve 175 = .ok (.aload_n 0, 1) := dk_42 (dk_at dksX0_solve_7 13 rfl rfl)
theorem dX0_solve_176 : decode cX0_solve 176 = .ok (.getfield 227, 3) := dk_180 0 227 (dk_at dksX0_solve_7 14 rfl rfl)
theorem dX0_solve_179 : decode cX0_solve 179 = .ok (.iload 5, 2) := dk_21 5 (dk_at dksX0_solve_7 17 rfl rfl)
theorem dX0_solve_181 : decode cX0_solve 181 = .ok (.aaload, 1) := dk_50 (dk_at dksX0_solve_7 19 rfl rfl)
theorem dX0_solve_182 : decode cX0_solve 182 = .ok (.iload_n 3, 1) := dk_29 (dk_at dksX0_solve_7 20 rfl rfl)
theorem dX0_solve_183 : decode cX0_solve 183 = .ok (.dup2, 1) := dk_92 (dk_at dksX0_solve_7 21 rfl rfl)
theorem dX0_solve_184 : decode cX0_solve 184 = .ok (.laload, 1) := dk_47 (dk_at dksX0_solve_7 22 rfl rfl)
theorem dX0_solve_185 : decode cX0_solve 185 = .ok (.aload_n 0, 1) := dk_42 (dk_at dksX0_solve_7 23 rfl rfl)
theorem dX0_solve_186 : decode cX0_solve 186 = .ok (.getfield 216, 3) := dk_180 0 216 (dk_at dksX0_solve_8 0 rfl rfl)
theorem dX0_solve_189 : decode cX0_solve 189 = .ok (.iload 4, 2) := dk_21 4 (dk_at dksX0_solve_8 3 rfl rfl)
theorem dX0_solve_191 : decode cX0_solve 191 = .ok (.iaload, 1) := dk_46 (dk_at dksX0_solve_8 5 rfl rfl)
theorem dX0_solve_192 : decode cX0_solve 192 = .ok (.i2l, 1) := dk_133 (dk_at dksX0_solve_8 6 rfl rfl)
theorem dX0_solve_193 : decode cX0_solve 193 = .ok (.ladd, 1) := dk_97 (dk_at dksX0_solve_8 7 rfl rfl)
theorem dX0_solve_194 : decode cX0_solve 194 = .ok (.lastore, 1) := dk_80 (dk_at dksX0_solve_8 8 rfl rfl)
theorem dX0_solve_195 : decode cX0_solve 195 = .ok (.iload 6, 2) := dk_21 6 (dk_at dksX0_solve_8 9 rfl rfl)
theorem dX0_solve_197 : decode cX0_solve 197 = .ok (.bipush (-4), 2) := dk_16 252 (dk_at dksX0_solve_8 11 rfl rfl)
theorem dX0_solve_199 : decode cX0_solve 199 = .ok (.if_icmp .eq 65, 3) := dk_159 0 65 (dk_at dksX0_solve_8 13 rfl rfl)
theorem dX0_solve_202 : decode cX0_solve 202 = .ok (.aload_n 0, 1) := dk_42 (dk_at dksX0_solve_8 16 rfl rfl)
theorem dX0_solve_203 : decode cX0_solve 203 = .ok (.getfield 227, 3) := dk_180 0 227 (dk_at dksX0_solve_8 17 rfl rfl)
theorem dX0_solve_206 : decode cX0_solve 206 = .ok (.iload 6, 2) := dk_21 6 (dk_at dksX0_solve_8 20 rfl rfl)
theorem dX0_solve_208 : decode cX0_solve 208 = .ok (.aaload, 1) := dk_50 (dk_at dksX0_solve_8 22 rfl rfl)
theorem dX0_solve_209 : decode cX0_solve 209 = .ok (.iload 6, 2) := dk_21 6 (dk_at dksX0_solve_9 0 rfl rfl)
theorem dX0_solve_211 : decode cX0_solve 211 = .ok (.dup2, 1) := dk_92 (dk_at dksX0_solve_9 2 rfl rfl)
theorem dX0_solve_212 : decode cX0_solve 212 = .ok (.laload, 1) := dk_47 (dk_at dksX0_solve_9 3 rfl rfl)
theorem dX0_solve_213 : decode cX0_solve 213 = .ok (.lconst 1, 1) := dk_10 (dk_at dksX0_solve_9 4 rfl rfl)
theorem dX0_solve_214 : decode cX0_solve 214 = .ok (.ladd, 1) := dk_97 (dk_at dksX0_solve_9 5 rfl rfl)
theorem dX0_solve_215 : decode cX0_solve 215 = .ok (.lastore, 1) := dk_80 (dk_at dksX0_solve_9 6 rfl rfl)
theorem dX0_solve_216 : decode cX0_solve 216 = .ok (.aload_n 0, 1) := dk_42 (dk_at dksX0_solve_9 7 rfl rfl)
theorem dX0_solve_217 : decode cX0_solve 217 = .ok (.getfield 227, 3) := dk_180 0 227 (dk_at dksX0_solve_9 8 rfl rfl)
theorem dX0_solve_220 : decode cX0_solve 220 = .ok (.iload 6, 2) := dk_21 6 (dk_at dksX0_solve_9 11 rfl rfl)
theorem dX0_solve_222 : decode cX0_solve 222 = .ok (.aaload, 1) := dk_50 (dk_at dksX0_solve_9 13 rfl rfl)
theorem dX0_solve_223 : decode cX0_solve 223 = .ok (.iload_n 3, 1) := dk_29 (dk_at dksX0_solve_9 14 rfl rfl)
theorem dX0_solve_224 : decode cX0_solve 224 = .ok (.dup2, 1) := dk_92 (dk_at dksX0_solve_9 15 rfl rfl)
theorem dX0_solve_225 : decode cX0_solve 225 = .ok (.laload, 1) := dk_47 (dk_at dksX0_solve_9 16 rfl rfl)
theorem dX0_solve_226 : decode cX0_solve 226 = .ok (.aload_n 0, 1) := dk_42 (dk_at dksX0_solve_9 17 rfl rfl)
theorem dX0_solve_227 : decode cX0_solve 227 = .ok (.getfield 216, 3) := dk_180 0 216 (dk_at dksX0_solve_9 18 rfl rfl)
theorem dX0_solve_230 : decode cX0_solve 230 = .ok (.iload 4, 2) := dk_21 4 (dk_at dksX0_solve_9 21 rfl rfl)
theorem dX0_solve_232 : decode cX0_solve 232 = .ok (.iaload, 1) := dk_46 (dk_at dksX0_solve_9 23 rfl rfl)
theorem dX0_solve_233 : decode cX0_solve 233 = .ok (.i2l, 1) := dk_133 (dk_at dksX0_solve_10 0 rfl rfl)
theorem dX0_solve_234 : decode cX0_solve 234 = .ok (.ladd, 1) := dk_97 (dk_at dksX0_solve_10 1 rfl rfl)
theorem dX0_solve_235 : decode cX0_solve 235 = .ok (.lastore, 1) := dk_80 (dk_at dksX0_solve_10 2 rfl rfl)
theorem dX0_solve_236 : decode cX0_solve 236 = .ok (.aload_n 0, 1) := dk_42 (dk_at dksX0_solve_10 3 rfl rfl)
theorem dX0_solve_237 : decode cX0_solve 237 = .ok (.getfield 227, 3) := dk_180 0 227 (dk_at dksX0_solve_10 4 rfl rfl)
theorem dX0_solve_240 : decode cX0_solve 240 = .ok (.iload 5, 2) := dk_21 5 (dk_at dksX0_solve_10 7 rfl rfl)
theorem dX0_solve_242 : decode cX0_solve 242 = .ok (.aaload, 1) := dk_50 (dk_at dksX0_solve_10 9 rfl rfl)
theorem dX0_solve_243 : decode cX0_solve 243 = .ok (.iload 6, 2) := dk_21 6 (dk_at dksX0_solve_10 10 rfl rfl)
theorem dX0_solve_245 : decode cX0_solve 245 = .ok (.dup2, 1) := dk_92 (dk_at dksX0_solve_10 12 rfl rfl)
theorem dX0_solve_246 : decode cX0_solve 246 = .ok (.laload, 1) := dk_47 (dk_at dksX0_solve_10 13 rfl rfl)
theorem dX0_solve_247 : decode cX0_solve 247 = .ok (.lconst 1, 1) := dk_10 (dk_at dksX0_solve_10 14 rfl rfl)
theorem dX0_solve_248 : decode cX0_solve 248 = .ok (.ladd, 1) := dk_97 (dk_at dksX0_solve_10 15 rfl rfl)
theorem dX0_solve_249 : decode cX0_solve 249 = .ok (.lastore, 1) := dk_80 (dk_at dksX0_solve_10 16 rfl rfl)
theorem dX0_solve_250 : decode cX0_solve 250 = .ok (.aload_n 0, 1) := dk_42 (dk_at dksX0_solve_10 17 rfl rfl)
theorem dX0_solve_251 : decode cX0_solve 251 = .ok (.getfield 227, 3) := dk_180 0 227 (dk_at dksX0_solve_10 18 rfl rfl)
theorem dX0_solve_254 : decode cX0_solve 254 = .ok (.iload 6, 2) := dk_21 6 (dk_at dksX0_solve_10 21 rfl rfl)
theorem dX0_solve_256 : decode cX0_solve 256 = .ok (.aaload, 1) := dk_50 (dk_at dksX0_solve_10 23 rfl rfl)
theorem dX0_solve_257 : decode cX0_solve 257 = .ok (.iload 5, 2) := dk_21 5 (dk_at dksX0_solve_11 0 rfl rfl)
theorem dX0_solve_259 : decode cX0_solve 259 = .ok (.dup2, 1) := dk_92 (dk_at dksX0_solve_11 2 rfl rfl)
theorem dX0_solve_260 : decode cX0_solve 260 = .ok (.laload, 1) := dk_47 (dk_at dksX0_solve_11 3 rfl rfl)
theorem dX0_solve_261 : decode cX0_solve 261 = .ok (.lconst 1, 1) := dk_10 (dk_at dksX0_solve_11 4 rfl rfl)
theorem dX0_solve_262 : decode cX0_solve 262 = .ok (.ladd, 1) := dk_97 (dk_at dksX0_solve_11 5 rfl rfl)
theorem dX0_solve_263 : decode cX0_solve 263 = .ok (.lastore, 1) := dk_80 (dk_at dksX0_solve_11 6 rfl rfl)
theorem dX0_solve_264 : decode cX0_solve 264 = .ok (.iinc 4 1, 3) := dk_132 4 1 (dk_at dksX0_solve_11 7 rfl rfl)
theorem dX0_solve_267 : decode cX0_solve 267 = .ok (.goto (-164), 3) := dk_167 255 92 (dk_at dksX0_solve_11 10 rfl rfl)
theorem dX0_solve_270 : decode cX0_solve 270 = .ok (.aload_n 0, 1) := dk_42 (dk_at dksX0_solve_11 13 rfl rfl)
theorem dX0_solve_271 : decode cX0_solve 271 = .ok (.lconst 1, 1) := dk_10 (dk_at dksX0_solve_11 14 rfl rfl)
theorem dX0_solve_272 : decode cX0_solve 272 = .ok (.putfield 559, 3) := dk_181 2 47 (dk_at dksX0_solve_11 15 rfl rfl)
theorem dX0_solve_275 : decode cX0_solve 275 = .ok (.iconst 0, 1) := dk_3 (dk_at dksX0_solve_11 18 rfl rfl)
theorem dX0_solve_276 : decode cX0_solve 276 = .ok (.istore 4, 2) := dk_54 4 (dk_at dksX0_solve_11 19 rfl rfl)
theorem dX0_solve_278 : decode cX0_solve 278 = .ok (.iload 4, 2) := dk_21 4 (dk_at dksX0_solve_11 21 rfl rfl)
theorem dX0_solve_280 : decode cX0_solve 280 = .ok (.iload_n 3, 1) := dk_29 (dk_at dksX0_solve_11 23 rfl rfl)
theorem dX0_solve_281 : decode cX0_solve 281 = .ok (.if_icmp .ge 118, 3) := dk_162 0 118 (dk_at dksX0_solve_12 0 rfl rfl)
theorem dX0_solve_284 : decode cX0_solve 284 = .ok (.aload_n 0, 1) := dk_42 (dk_at dksX0_solve_12 3 rfl rfl)
theorem dX0_solve_285 : decode cX0_solve 285 = .ok (.getfield 227, 3) := dk_180 0 227 (dk_at dksX0_solve_12 4 rfl rfl)
theorem dX0_solve_288 : decode cX0_solve 288 = .ok (.iload 4, 2) := dk_21 4 (dk_at dksX0_solve_12 7 rfl rfl)
theorem dX0_solve_290 : decode cX0_solve 290 = .ok (.aaload, 1) := dk_50 (dk_at dksX0_solve_12 9 rfl rfl)
theorem dX0_solve_291 : decode cX0_solve 291 = .ok (.iload 4, 2) := dk_21 4 (dk_at dksX0_solve_12 10 rfl rfl)
theorem dX0_solve_293 : decode cX0_solve 293 = .ok (.laload, 1) := dk_47 (dk_at dksX0_solve_12 12 rfl rfl)
theorem dX0_solve_294 : decode cX0_solve 294 = .ok (.lstore 5, 2) := dk_55 5 (dk_at dksX0_solve_12 13 rfl rfl)
theorem dX0_solve_296 : decode cX0_solve 296 = .ok (.iconst 0, 1) := dk_3 (dk_at dksX0_solve_12 15 rfl rfl)
theorem dX0_solve_297 : decode cX0_solve 297 = .ok (.istore 7, 2) := dk_54 7 (dk_at dksX0_solve_12 16 rfl rfl)
theorem dX0_solve_299 : decode cX0_solve 299 = .ok (.iload 7, 2) := dk_21 7 (dk_at dksX0_solve_12 18 rfl rfl)
theorem dX0_solve_301 : decode cX0_solve 301 = .ok (.iload_n 3, 1) := dk_29 (dk_at dksX0_solve_12 20 rfl rfl)
theorem dX0_solve_302 : decode cX0_solve 302 = .ok (.if_icmp .ge 85, 3) := dk_162 0 85 (dk_at dksX0_solve_12 21 rfl rfl)
theorem dX0_solve_305 : decode cX0_solve 305 = .ok (.aload_n 0, 1) := dk_42 (dk_at dksX0_solve_13 0 rfl rfl)
theorem dX0_solve_306 : decode cX0_solve 306 = .ok (.getfield 227, 3) := dk_180 0 227 (dk_at dksX0_solve_13 1 rfl rfl)
theorem dX0_solve_309 : decode cX0_solve 309 = .ok (.iload 7, 2) := dk_21 7 (dk_at dksX0_solve_13 4 rfl rfl)
theorem dX0_solve_311 : decode cX0_solve 311 = .ok (.aaload, 1) := dk_50 (dk_at dksX0_solve_13 6 rfl rfl)
theorem dX0_solve_312 : decode cX0_solve 312 = .ok (.iload 4, 2) := dk_21 4 (dk_at dksX0_solve_13 7 rfl rfl)
theorem dX0_solve_314 : decode cX0_solve 314 = .ok (.laload, 1) := dk_47 (dk_at dksX0_solve_13 9 rfl rfl)
theorem dX0_solve_315 : decode cX0_solve 315 = .ok (.lstore 8, 2) := dk_55 8 (dk_at dksX0_solve_13 10 rfl rfl)
theorem dX0_solve_317 : decode cX0_solve 317 = .ok (.iconst 0, 1) := dk_3 (dk_at dksX0_solve_13 12 rfl rfl)
theorem dX0_solve_318 : decode cX0_solve 318 = .ok (.istore 10, 2) := dk_54 10 (dk_at dksX0_solve_13 13 rfl rfl)
theorem dX0_solve_320 : decode cX0_solve 320 = .ok (.iload 10, 2) := dk_21 10 (dk_at dksX0_solve_13 15 rfl rfl)
theorem dX0_solve_322 : decode cX0_solve 322 = .ok (.iload_n 3, 1) := dk_29 (dk_at dksX0_solve_13 17 rfl rfl)
theorem dX0_solve_323 : decode cX0_solve 323 = .ok (.if_icmp .gt 58, 3) := dk_163 0 58 (dk_at dksX0_solve_13 18 rfl rfl)
theorem dX0_solve_326 : decode cX0_solve 326 = .ok (.iload 7, 2) := dk_21 7 (dk_at dksX0_solve_13 21 rfl rfl)
theorem dX0_solve_328 : decode cX0_solve 328 = .ok (.iload 4, 2) := dk_21 4 (dk_at dksX0_solve_14 0 rfl rfl)
theorem dX0_solve_330 : decode cX0_solve 330 = .ok (.if_icmp .eq 51, 3) := dk_159 0 51 (dk_at dksX0_solve_14 2 rfl rfl)
theorem dX0_solve_333 : decode cX0_solve 333 = .ok (.aload_n 0, 1) := dk_42 (dk_at dksX0_solve_14 5 rfl rfl)
theorem dX0_solve_334 : decode cX0_solve 334 = .ok (.getfield 227, 3) := dk_180 0 227 (dk_at dksX0_solve_14 6 rfl rfl)
theorem dX0_solve_337 : decode cX0_solve 337 = .ok (.iload 7, 2) := dk_21 7 (dk_at dksX0_solve_14 9 rfl rfl)
theorem dX0_solve_339 : decode cX0_solve 339 = .ok (.aaload, 1) := dk_50 (dk_at dksX0_solve_14 11 rfl rfl)
theorem dX0_solve_340 : decode cX0_solve 340 = .ok (.iload 10, 2) := dk_21 10 (dk_at dksX0_solve_14 12 rfl rfl)
theorem dX0_solve_342 : decode cX0_solve 342 = .ok (.lload 5, 2) := dk_22 5 (dk_at dksX0_solve_14 14 rfl rfl)
theorem dX0_solve_344 : decode cX0_solve 344 = .ok (.aload_n 0, 1) := dk_42 (dk_at dksX0_solve_14 16 rfl rfl)
theorem dX0_solve_345 : decode cX0_solve 345 = .ok (.getfield 227, 3) := dk_180 0 227 (dk_at dksX0_solve_14 17 rfl rfl)
theorem dX0_solve_348 : decode cX0_solve 348 = .ok (.iload 7, 2) := dk_21 7 (dk_at dksX0_solve_14 20 rfl rfl)
theorem dX0_solve_350 : decode cX0_solve 350 = .ok (.aaload, 1) := dk_50 (dk_at dksX0_solve_14 22 rfl rfl)
theorem dX0_solve_351 : decode cX0_solve 351 = .ok (.iload 10, 2) := dk_21 10 (dk_at dksX0_solve_15 0 rfl rfl)
theorem dX0_solve_353 : decode cX0_solve 353 = .ok (.laload, 1) := dk_47 (dk_at dksX0_solve_15 2 rfl rfl)
theorem dX0_solve_354 : decode cX0_solve 354 = .ok (.lmul, 1) := dk_105 (dk_at dksX0_solve_15 3 rfl rfl)
theorem dX0_solve_355 : decode cX0_solve 355 = .ok (.lload 8, 2) := dk_22 8 (dk_at dksX0_solve_15 4 rfl rfl)
theorem dX0_solve_357 : decode cX0_solve 357 = .ok (.aload_n 0, 1) := dk_42 (dk_at dksX0_solve_15 6 rfl rfl)
theorem dX0_solve_358 : decode cX0_solve 358 = .ok (.getfield 227, 3) := dk_180 0 227 (dk_at dksX0_solve_15 7 rfl rfl)
theorem dX0_solve_361 : decode cX0_solve 361 = .ok (.iload 4, 2) := dk_21 4 (dk_at dksX0_solve_15 10 rfl rfl)
theorem dX0_solve_363 : decode cX0_solve 363 = .ok (.aaload, 1) := dk_50 (dk_at dksX0_solve_15 12 rfl rfl)
theorem dX0_solve_364 : decode cX0_solve 364 = .ok (.iload 10, 2) := dk_21 10 (dk_at dksX0_solve_15 13 rfl rfl)
theorem dX0_solve_366 : decode cX0_solve 366 = .ok (.laload, 1) := dk_47 (dk_at dksX0_solve_15 15 rfl rfl)
theorem dX0_solve_367 : decode cX0_solve 367 = .ok (.lmul, 1) := dk_105 (dk_at dksX0_solve_15 16 rfl rfl)
theorem dX0_solve_368 : decode cX0_solve 368 = .ok (.lsub, 1) := dk_101 (dk_at dksX0_solve_15 17 rfl rfl)
theorem dX0_solve_369 : decode cX0_solve 369 = .ok (.aload_n 0, 1) := dk_42 (dk_at dksX0_solve_15 18 rfl rfl)
theorem dX0_solve_370 : decode cX0_solve 370 = .ok (.getfield 559, 3) := dk_180 2 47 (dk_at dksX0_solve_15 19 rfl rfl)
theorem dX0_solve_373 : decode cX0_solve 373 = .ok (.ldiv, 1) := dk_109 (dk_at dksX0_solve_15 22 rfl rfl)
theorem dX0_solve_374 : decode cX0_solve 374 = .ok (.lastore, 1) := dk_80 (dk_at dksX0_solve_15 23 rfl rfl)
theorem dX0_solve_375 : decode cX0_solve 375 = .ok (.iinc 10 1, 3) := dk_132 10 1 (dk_at dksX0_solve_16 0 rfl rfl)
theorem dX0_solve_378 : decode cX0_solve 378 = .ok (.goto (-58), 3) := dk_167 255 198 (dk_at dksX0_solve_16 3 rfl rfl)
theorem dX0_solve_381 : decode cX0_solve 381 = .ok (.iinc 7 1, 3) := dk_132 7 1 (dk_at dksX0_solve_16 6 rfl rfl)
theorem dX0_solve_384 : decode cX0_solve 384 = .ok (.goto (-85), 3) := dk_167 255 171 (dk_at dksX0_solve_16 9 rfl rfl)
theorem dX0_solve_387 : decode cX0_solve 387 = .ok (.aload_n 0, 1) := dk_42 (dk_at dksX0_solve_16 12 rfl rfl)
theorem dX0_solve_388 : decode cX0_solve 388 = .ok (.lload 5, 2) := dk_22 5 (dk_at dksX0_solve_16 13 rfl rfl)
theorem dX0_solve_390 : decode cX0_solve 390 = .ok (.putfield 559, 3) := dk_181 2 47 (dk_at dksX0_solve_16 15 rfl rfl)
theorem dX0_solve_393 : decode cX0_solve 393 = .ok (.iinc 4 1, 3) := dk_132 4 1 (dk_at dksX0_solve_16 18 rfl rfl)
theorem dX0_solve_396 : decode cX0_solve 396 = .ok (.goto (-118), 3) := dk_167 255 138 (dk_at dksX0_solve_16 21 rfl rfl)
theorem dX0_solve_399 : decode cX0_solve 399 = .ok (.return_, 1) := dk_177 (dk_at dksX0_solve_17 0 rfl rfl)
abbrev cX0_part : ByteArray := prog_1_method_80_code
def yX0_part : MethodName := ⟨RX0, "part", "(I)J"⟩
def dkwX0_part_1 : List UInt8 := [46, 50, 42, 180, 0, 227, 190, 47, 173]
abbrev dktX0_part_1 : List UInt8 := dkwX0_part_1 ++ []
def dkwX0_part_0 : List UInt8 := [42, 180, 0, 222, 27, 46, 16, 252, 160, 0, 7, 9, 167, 0, 20, 42, 180, 0, 227, 42, 180, 0, 222, 27]
abbrev dktX0_part_0 : List UInt8 := dkwX0_part_0 ++ dktX0_part_1
theorem dksX0_part_0 : cX0_part.data.toList.drop 0 = dktX0_part_0 := by decide +kernel
theorem dksX0_part_1 : cX0_part.data.toList.drop 24 = dktX0_part_1 := dk_seg dksX0_part_0 24 rfl rfl
theorem dX0_part_0 : decode cX0_part 0 = .ok (.aload_n 0, 1) := dk_42 (dk_at dksX0_part_0 0 rfl rfl)
theorem dX0_part_1 : decode cX0_part 1 = .ok (.getfield 222, 3) := dk_180 0 222 (dk_at dksX0_part_0 1 rfl rfl)
theorem dX0_part_4 : decode cX0_part 4 = .ok (.iload_n 1, 1) := dk_27 (dk_at dksX0_part_0 4 rfl rfl)
theorem dX0_part_5 : decode cX0_part 5 = .ok (.iaload, 1) := dk_46 (dk_at dksX0_part_0 5 rfl rfl)
theorem dX0_part_6 : decode cX0_part 6 = .ok (.bipush (-4), 2) := dk_16 252 (dk_at dksX0_part_0 6 rfl rfl)
theorem dX0_part_8 : decode cX0_part 8 = .ok (.if_icmp .ne 7, 3) := dk_160 0 7 (dk_at dksX0_part_0 8 rfl rfl)
theorem dX0_part_11 : decode cX0_part 11 = .ok (.lconst 0, 1) := dk_9 (dk_at dksX0_part_0 11 rfl rfl)
theorem dX0_part_12 : decode cX0_part 12 = .ok (.goto 20, 3) := dk_167 0 20 (dk_at dksX0_part_0 12 rfl rfl)
theorem dX0_part_15 : decode cX0_part 15 = .ok (.aload_n 0, 1) := dk_42 (dk_at dksX0_part_0 15 rfl rfl)
theorem dX0_part_16 : decode cX0_part 16 = .ok (.getfield 227, 3) := dk_180 0 227 (dk_at dksX0_part_0 16 rfl rfl)
theorem dX0_part_19 : decode cX0_part 19 = .ok (.aload_n 0, 1) := dk_42 (dk_at dksX0_part_0 19 rfl rfl)
theorem dX0_part_20 : decode cX0_part 20 = .ok (.getfield 222, 3) := dk_180 0 222 (dk_at dksX0_part_0 20 rfl rfl)
theorem dX0_part_23 : decode cX0_part 23 = .ok (.iload_n 1, 1) := dk_27 (dk_at dksX0_part_0 23 rfl rfl)
theorem dX0_part_24 : decode cX0_part 24 = .ok (.iaload, 1) := dk_46 (dk_at dksX0_part_1 0 rfl rfl)
theorem dX0_part_25 : decode cX0_part 25 = .ok (.aaload, 1) := dk_50 (dk_at dksX0_part_1 1 rfl rfl)
theorem dX0_part_26 : decode cX0_part 26 = .ok (.aload_n 0, 1) := dk_42 (dk_at dksX0_part_1 2 rfl rfl)
theorem dX0_part_27 : decode cX0_part 27 = .ok (.getfield 227, 3) := dk_180 0 227 (dk_at dksX0_part_1 3 rfl rfl)
theorem dX0_part_30 : decode cX0_part 30 = .ok (.arraylength, 1) := dk_190 (dk_at dksX0_part_1 6 rfl rfl)
theorem dX0_part_31 : decode cX0_part 31 = .ok (.laload, 1) := dk_47 (dk_at dksX0_part_1 7 rfl rfl)
theorem dX0_part_32 : decode cX0_part 32 = .ok (.lreturn, 1) := dk_173 (dk_at dksX0_part_1 8 rfl rfl)
abbrev cX0_lowest : ByteArray := prog_1_method_81_code
def yX0_lowest : MethodName := ⟨RX0, "lowest", "(JJI)J"⟩
def dkwX0_lowest_2 : List UInt8 := [173]
abbrev dktX0_lowest_2 : List UInt8 := dkwX0_lowest_2 ++ []
def dkwX0_lowest_1 : List UInt8 := [22, 7, 55, 5, 22, 9, 55, 7, 167, 255, 234, 21, 4, 154, 0, 7, 30, 167, 0, 4, 32, 22, 5, 109]
abbrev dktX0_lowest_1 : List UInt8 := dkwX0_lowest_1 ++ dktX0_lowest_2
def dkwX0_lowest_0 : List UInt8 := [30, 184, 2, 51, 55, 5, 32, 55, 7, 22, 7, 9, 148, 153, 0, 21, 22, 5, 22, 7, 113, 55, 9]
abbrev dktX0_lowest_0 : List UInt8 := dkwX0_lowest_0 ++ dktX0_lowest_1
theorem dksX0_lowest_0 : cX0_lowest.data.toList.drop 0 = dktX0_lowest_0 := by decide +kernel
theorem dksX0_lowest_1 : cX0_lowest.data.toList.drop 23 = dktX0_lowest_1 := dk_seg dksX0_lowest_0 23 rfl rfl
theorem dksX0_lowest_2 : cX0_lowest.data.toList.drop 47 = dktX0_lowest_2 := dk_seg dksX0_lowest_1 24 rfl rfl
theorem dX0_lowest_0 : decode cX0_lowest 0 = .ok (.lload_n 0, 1) := dk_30 (dk_at dksX0_lowest_0 0 rfl rfl)
theorem dX0_lowest_1 : decode cX0_lowest 1 = .ok (.invokestatic 563, 3) := dk_184 2 51 (dk_at dksX0_lowest_0 1 rfl rfl)
theorem dX0_lowest_4 : decode cX0_lowest 4 = .ok (.lstore 5, 2) := dk_55 5 (dk_at dksX0_lowest_0 4 rfl rfl)
theorem dX0_lowest_6 : decode cX0_lowest 6 = .ok (.lload_n 2, 1) := dk_32 (dk_at dksX0_lowest_0 6 rfl rfl)
theorem dX0_lowest_7 : decode cX0_lowest 7 = .ok (.lstore 7, 2) := dk_55 7 (dk_at dksX0_lowest_0 7 rfl rfl)
theorem dX0_lowest_9 : decode cX0_lowest 9 = .ok (.lload 7, 2) := dk_22 7 (dk_at dksX0_lowest_0 9 rfl rfl)
theorem dX0_lowest_11 : decode cX0_lowest 11 = .ok (.lconst 0, 1) := dk_9 (dk_at dksX0_lowest_0 11 rfl rfl)
theorem dX0_lowest_12 : decode cX0_lowest 12 = .ok (.lcmp, 1) := dk_148 (dk_at dksX0_lowest_0 12 rfl rfl)
theorem dX0_lowest_13 : decode cX0_lowest 13 = .ok (.ifCond .eq 21, 3) := dk_153 0 21 (dk_at dksX0_lowest_0 13 rfl rfl)
theorem dX0_lowest_16 : decode cX0_lowest 16 = .ok (.lload 5, 2) := dk_22 5 (dk_at dksX0_lowest_0 16 rfl rfl)
theorem dX0_lowest_18 : decode cX0_lowest 18 = .ok (.lload 7, 2) := dk_22 7 (dk_at dksX0_lowest_0 18 rfl rfl)
theorem dX0_lowest_20 : decode cX0_lowest 20 = .ok (.lrem, 1) := dk_113 (dk_at dksX0_lowest_0 20 rfl rfl)
theorem dX0_lowest_21 : decode cX0_lowest 21 = .ok (.lstore 9, 2) := dk_55 9 (dk_at dksX0_lowest_0 21 rfl rfl)
theorem dX0_lowest_23 : decode cX0_lowest 23 = .ok (.lload 7, 2) := dk_22 7 (dk_at dksX0_lowest_1 0 rfl rfl)
theorem dX0_lowest_25 : decode cX0_lowest 25 = .ok (.lstore 5, 2) := dk_55 5 (dk_at dksX0_lowest_1 2 rfl rfl)
theorem dX0_lowest_27 : decode cX0_lowest 27 = .ok (.lload 9, 2) := dk_22 9 (dk_at dksX0_lowest_1 4 rfl rfl)
theorem dX0_lowest_29 : decode cX0_lowest 29 = .ok (.lstore 7, 2) := dk_55 7 (dk_at dksX0_lowest_1 6 rfl rfl)
theorem dX0_lowest_31 : decode cX0_lowest 31 = .ok (.goto (-22), 3) := dk_167 255 234 (dk_at dksX0_lowest_1 8 rfl rfl)
theorem dX0_lowest_34 : decode cX0_lowest 34 = .ok (.iload 4, 2) := dk_21 4 (dk_at dksX0_lowest_1 11 rfl rfl)
theorem dX0_lowest_36 : decode cX0_lowest 36 = .ok (.ifCond .ne 7, 3) := dk_154 0 7 (dk_at dksX0_lowest_1 13 rfl rfl)
theorem dX0_lowest_39 : decode cX0_lowest 39 = .ok (.lload_n 0, 1) := dk_30 (dk_at dksX0_lowest_1 16 rfl rfl)
theorem dX0_lowest_40 : decode cX0_lowest 40 = .ok (.goto 4, 3) := dk_167 0 4 (dk_at dksX0_lowest_1 17 rfl rfl)
theorem dX0_lowest_43 : decode cX0_lowest 43 = .ok (.lload_n 2, 1) := dk_32 (dk_at dksX0_lowest_1 20 rfl rfl)
theorem dX0_lowest_44 : decode cX0_lowest 44 = .ok (.lload 5, 2) := dk_22 5 (dk_at dksX0_lowest_1 21 rfl rfl)
theorem dX0_lowest_46 : decode cX0_lowest 46 = .ok (.ldiv, 1) := dk_109 (dk_at dksX0_lowest_1 23 rfl rfl)
theorem dX0_lowest_47 : decode cX0_lowest 47 = .ok (.lreturn, 1) := dk_173 (dk_at dksX0_lowest_2 0 rfl rfl)
abbrev cX0_over : ByteArray := prog_1_method_83_code
def yX0_over : MethodName := ⟨RX0, "over", "(II)J"⟩
def dkwX0_over_3 : List UInt8 := [182, 2, 62, 101, 42, 180, 2, 47, 28, 184, 2, 65, 173]
abbrev dktX0_over_3 : List UInt8 := dkwX0_over_3 ++ []
def dkwX0_over_2 : List UInt8 := [42, 180, 2, 47, 105, 42, 42, 180, 0, 210, 27, 46, 182, 2, 62, 101, 42, 42, 180, 0, 213, 27, 46]
abbrev dktX0_over_2 : List UInt8 := dkwX0_over_2 ++ dktX0_over_3
def dkwX0_over_1 : List UInt8 := [154, 0, 7, 20, 2, 55, 173, 42, 42, 180, 0, 210, 27, 46, 182, 2, 59, 42, 180, 0, 216, 27, 46, 133]
abbrev dktX0_over_1 : List UInt8 := dkwX0_over_1 ++ dktX0_over_2
def dkwX0_over_0 : List UInt8 := [27, 133, 9, 42, 180, 2, 40, 4, 100, 133, 184, 0, 9, 153, 0, 13, 28, 133, 9, 10, 184, 0, 9]
abbrev dktX0_over_0 : List UInt8 := dkwX0_over_0 ++ dktX0_over_1
theorem dksX0_over_0 : cX0_over.data.toList.drop 0 = dktX0_over_0 := by decide +kernel
theorem dksX0_over_1 : cX0_over.data.toList.drop 23 = dktX0_over_1 := dk_seg dksX0_over_0 23 rfl rfl
theorem dksX0_over_2 : cX0_over.data.toList.drop 47 = dktX0_over_2 := dk_seg dksX0_over_1 24 rfl rfl
theorem dksX0_over_3 : cX0_over.data.toList.drop 70 = dktX0_over_3 := dk_seg dksX0_over_2 23 rfl rfl
theorem dX0_over_0 : decode cX0_over 0 = .ok (.iload_n 1, 1) := dk_27 (dk_at dksX0_over_0 0 rfl rfl)
theorem dX0_over_1 : decode cX0_over 1 = .ok (.i2l, 1) := dk_133 (dk_at dksX0_over_0 1 rfl rfl)
theorem dX0_over_2 : decode cX0_over 2 = .ok (.lconst 0, 1) := dk_9 (dk_at dksX0_over_0 2 rfl rfl)
theorem dX0_over_3 : decode cX0_over 3 = .ok (.aload_n 0, 1) := dk_42 (dk_at dksX0_over_0 3 rfl rfl)
theorem dX0_over_4 : decode cX0_over 4 = .ok (.getfield 552, 3) := dk_180 2 40 (dk_at dksX0_over_0 4 rfl rfl)
theorem dX0_over_7 : decode cX0_over 7 = .ok (.iconst 1, 1) := dk_4 (dk_at dksX0_over_0 7 rfl rfl)
theorem dX0_over_8 : decode cX0_over 8 = .ok (.isub, 1) := dk_100 (dk_at dksX0_over_0 8 rfl rfl)
theorem dX0_over_9 : decode cX0_over 9 = .ok (.i2l, 1) := dk_133 (dk_at dksX0_over_0 9 rfl rfl)
theorem dX0_over_10 : decode cX0_over 10 = .ok (.invokestatic 9, 3) := dk_184 0 9 (dk_at dksX0_over_0 10 rfl rfl)
theorem dX0_over_13 : decode cX0_over 13 = .ok (.ifCond .eq 13, 3) := dk_153 0 13 (dk_at dksX0_over_0 13 rfl rfl)
theorem dX0_over_16 : decode cX0_over 16 = .ok (.iload_n 2, 1) := dk_28 (dk_at dksX0_over_0 16 rfl rfl)
theorem dX0_over_17 : decode cX0_over 17 = .ok (.i2l, 1) := dk_133 (dk_at dksX0_over_0 17 rfl rfl)
theorem dX0_over_18 : decode cX0_over 18 = .ok (.lconst 0, 1) := dk_9 (dk_at dksX0_over_0 18 rfl rfl)
theorem dX0_over_19 : decode cX0_over 19 = .ok (.lconst 1, 1) := dk_10 (dk_at dksX0_over_0 19 rfl rfl)
theorem dX0_over_20 : decode cX0_over 20 = .ok (.invokestatic 9, 3) := dk_184 0 9 (dk_at dksX0_over_0 20 rfl rfl)
theorem dX0_over_23 : decode cX0_over 23 = .ok (.ifCond .ne 7, 3) := dk_154 0 7 (dk_at dksX0_over_1 0 rfl rfl)
theorem dX0_over_26 : decode cX0_over 26 = .ok (.ldc2_w 567, 3) := dk_20 2 55 (dk_at dksX0_over_1 3 rfl rfl)
theorem dX0_over_29 : decode cX0_over 29 = .ok (.lreturn, 1) := dk_173 (dk_at dksX0_over_1 6 rfl rfl)
theorem dX0_over_30 : decode cX0_over 30 = .ok (.aload_n 0, 1) := dk_42 (dk_at dksX0_over_1 7 rfl rfl)
theorem dX0_over_31 : decode cX0_over 31 = .ok (.aload_n 0, 1) := dk_42 (dk_at dksX0_over_1 8 rfl rfl)
theorem dX0_over_32 : decode cX0_over 32 = .ok (.getfield 210, 3) := dk_180 0 210 (dk_at dksX0_over_1 9 rfl rfl)
theorem dX0_over_35 : decode cX0_over 35 = .ok (.iload_n 1, 1) := dk_27 (dk_at dksX0_over_1 12 rfl rfl)
theorem dX0_over_36 : decode cX0_over 36 = .ok (.iaload, 1) := dk_46 (dk_at dksX0_over_1 13 rfl rfl)
theorem dX0_over_37 : decode cX0_over 37 = .ok (.invokevirtual 571, 3) := dk_182 2 59 (dk_at dksX0_over_1 14 rfl rfl)
theorem dX0_over_40 : decode cX0_over 40 = .ok (.aload_n 0, 1) := dk_42 (dk_at dksX0_over_1 17 rfl rfl)
theorem dX0_over_41 : decode cX0_over 41 = .ok (.getfield 216, 3) := dk_180 0 216 (dk_at dksX0_over_1 18 rfl rfl)
theorem dX0_over_44 : decode cX0_over 44 = .ok (.iload_n 1, 1) := dk_27 (dk_at dksX0_over_1 21 rfl rfl)
theorem dX0_over_45 : decode cX0_over 45 = .ok (.iaload, 1) := dk_46 (dk_at dksX0_over_1 22 rfl rfl)
theorem dX0_over_46 : decode cX0_over 46 = .ok (.i2l, 1) := dk_133 (dk_at dksX0_over_1 23 rfl rfl)
theorem dX0_over_47 : decode cX0_over 47 = .ok (.aload_n 0, 1) := dk_42 (dk_at dksX0_over_2 0 rfl rfl)
theorem dX0_over_48 : decode cX0_over 48 = .ok (.getfield 559, 3) := dk_180 2 47 (dk_at dksX0_over_2 1 rfl rfl)
theorem dX0_over_51 : decode cX0_over 51 = .ok (.lmul, 1) := dk_105 (dk_at dksX0_over_2 4 rfl rfl)
theorem dX0_over_52 : decode cX0_over 52 = .ok (.aload_n 0, 1) := dk_42 (dk_at dksX0_over_2 5 rfl rfl)
theorem dX0_over_53 : decode cX0_over 53 = .ok (.aload_n 0, 1) := dk_42 (dk_at dksX0_over_2 6 rfl rfl)
theorem dX0_over_54 : decode cX0_over 54 = .ok (.getfield 210, 3) := dk_180 0 210 (dk_at dksX0_over_2 7 rfl rfl)
theorem dX0_over_57 : decode cX0_over 57 = .ok (.iload_n 1, 1) := dk_27 (dk_at dksX0_over_2 10 rfl rfl)
theorem dX0_over_58 : decode cX0_over 58 = .ok (.iaload, 1) := dk_46 (dk_at dksX0_over_2 11 rfl rfl)
theorem dX0_over_59 : decode cX0_over 59 = .ok (.invokevirtual 574, 3) := dk_182 2 62 (dk_at dksX0_over_2 12 rfl rfl)
theorem dX0_over_62 : decode cX0_over 62 = .ok (.lsub, 1) := dk_101 (dk_at dksX0_over_2 15 rfl rfl)
theorem dX0_over_63 : decode cX0_over 63 = .ok (.aload_n 0, 1) := dk_42 (dk_at dksX0_over_2 16 rfl rfl)
theorem dX0_over_64 : decode cX0_over 64 = .ok (.aload_n 0, 1) := dk_42 (dk_at dksX0_over_2 17 rfl rfl)
theorem dX0_over_65 : decode cX0_over 65 = .ok (.getfield 213, 3) := dk_180 0 213 (dk_at dksX0_over_2 18 rfl rfl)
theorem dX0_over_68 : decode cX0_over 68 = .ok (.iload_n 1, 1) := dk_27 (dk_at dksX0_over_2 21 rfl rfl)
theorem dX0_over_69 : decode cX0_over 69 = .ok (.iaload, 1) := dk_46 (dk_at dksX0_over_2 22 rfl rfl)
theorem dX0_over_70 : decode cX0_over 70 = .ok (.invokevirtual 574, 3) := dk_182 2 62 (dk_at dksX0_over_3 0 rfl rfl)
theorem dX0_over_73 : decode cX0_over 73 = .ok (.lsub, 1) := dk_101 (dk_at dksX0_over_3 3 rfl rfl)
theorem dX0_over_74 : decode cX0_over 74 = .ok (.aload_n 0, 1) := dk_42 (dk_at dksX0_over_3 4 rfl rfl)
theorem dX0_over_75 : decode cX0_over 75 = .ok (.getfield 559, 3) := dk_180 2 47 (dk_at dksX0_over_3 5 rfl rfl)
theorem dX0_over_78 : decode cX0_over 78 = .ok (.iload_n 2, 1) := dk_28 (dk_at dksX0_over_3 8 rfl rfl)
theorem dX0_over_79 : decode cX0_over 79 = .ok (.invokestatic 577, 3) := dk_184 2 65 (dk_at dksX0_over_3 9 rfl rfl)
theorem dX0_over_82 : decode cX0_over 82 = .ok (.lreturn, 1) := dk_173 (dk_at dksX0_over_3 12 rfl rfl)
abbrev cX0_pieces : ByteArray := prog_1_method_84_code
def yX0_pieces : MethodName := ⟨RX0, "pieces", "()I"⟩
def dkwX0_pieces_1 : List UInt8 := [160, 0, 7, 4, 167, 0, 4, 3, 96, 60, 132, 2, 1, 167, 255, 229, 27, 172]
abbrev dktX0_pieces_1 : List UInt8 := dkwX0_pieces_1 ++ []
def dkwX0_pieces_0 : List UInt8 := [42, 182, 2, 43, 3, 60, 3, 61, 28, 16, 14, 162, 0, 27, 27, 42, 180, 0, 219, 28, 46, 28]
abbrev dktX0_pieces_0 : List UInt8 := dkwX0_pieces_0 ++ dktX0_pieces_1
theorem dksX0_pieces_0 : cX0_pieces.data.toList.drop 0 = dktX0_pieces_0 := by decide +kernel
theorem dksX0_pieces_1 : cX0_pieces.data.toList.drop 22 = dktX0_pieces_1 := dk_seg dksX0_pieces_0 22 rfl rfl
theorem dX0_pieces_0 : decode cX0_pieces 0 = .ok (.aload_n 0, 1) := dk_42 (dk_at dksX0_pieces_0 0 rfl rfl)
theorem dX0_pieces_1 : decode cX0_pieces 1 = .ok (.invokevirtual 555, 3) := dk_182 2 43 (dk_at dksX0_pieces_0 1 rfl rfl)
theorem dX0_pieces_4 : decode cX0_pieces 4 = .ok (.iconst 0, 1) := dk_3 (dk_at dksX0_pieces_0 4 rfl rfl)
theorem dX0_pieces_5 : decode cX0_pieces 5 = .ok (.istore_n 1, 1) := dk_60 (dk_at dksX0_pieces_0 5 rfl rfl)
theorem dX0_pieces_6 : decode cX0_pieces 6 = .ok (.iconst 0, 1) := dk_3 (dk_at dksX0_pieces_0 6 rfl rfl)
theorem dX0_pieces_7 : decode cX0_pieces 7 = .ok (.istore_n 2, 1) := dk_61 (dk_at dksX0_pieces_0 7 rfl rfl)
theorem dX0_pieces_8 : decode cX0_pieces 8 = .ok (.iload_n 2, 1) := dk_28 (dk_at dksX0_pieces_0 8 rfl rfl)
theorem dX0_pieces_9 : decode cX0_pieces 9 = .ok (.bipush 14, 2) := dk_16 14 (dk_at dksX0_pieces_0 9 rfl rfl)
theorem dX0_pieces_11 : decode cX0_pieces 11 = .ok (.if_icmp .ge 27, 3) := dk_162 0 27 (dk_at dksX0_pieces_0 11 rfl rfl)
theorem dX0_pieces_14 : decode cX0_pieces 14 = .ok (.iload_n 1, 1) := dk_27 (dk_at dksX0_pieces_0 14 rfl rfl)
theorem dX0_pieces_15 : decode cX0_pieces 15 = .ok (.aload_n 0, 1) := dk_42 (dk_at dksX0_pieces_0 15 rfl rfl)
theorem dX0_pieces_16 : decode cX0_pieces 16 = .ok (.getfield 219, 3) := dk_180 0 219 (dk_at dksX0_pieces_0 16 rfl rfl)
theorem dX0_pieces_19 : decode cX0_pieces 19 = .ok (.iload_n 2, 1) := dk_28 (dk_at dksX0_pieces_0 19 rfl rfl)
theorem dX0_pieces_20 : decode cX0_pieces 20 = .ok (.iaload, 1) := dk_46 (dk_at dksX0_pieces_0 20 rfl rfl)
theorem dX0_pieces_21 : decode cX0_pieces 21 = .ok (.iload_n 2, 1) := dk_28 (dk_at dksX0_pieces_0 21 rfl rfl)
theorem dX0_pieces_22 : decode cX0_pieces 22 = .ok (.if_icmp .ne 7, 3) := dk_160 0 7 (dk_at dksX0_pieces_1 0 rfl rfl)
theorem dX0_pieces_25 : decode cX0_pieces 25 = .ok (.iconst 1, 1) := dk_4 (dk_at dksX0_pieces_1 3 rfl rfl)
theorem dX0_pieces_26 : decode cX0_pieces 26 = .ok (.goto 4, 3) := dk_167 0 4 (dk_at dksX0_pieces_1 4 rfl rfl)
theorem dX0_pieces_29 : decode cX0_pieces 29 = .ok (.iconst 0, 1) := dk_3 (dk_at dksX0_pieces_1 7 rfl rfl)
theorem dX0_pieces_30 : decode cX0_pieces 30 = .ok (.iadd, 1) := dk_96 (dk_at dksX0_pieces_1 8 rfl rfl)
theorem dX0_pieces_31 : decode cX0_pieces 31 = .ok (.istore_n 1, 1) := dk_60 (dk_at dksX0_pieces_1 9 rfl rfl)
theorem dX0_pieces_32 : decode cX0_pieces 32 = .ok (.iinc 2 1, 3) := dk_132 2 1 (dk_at dksX0_pieces_1 10 rfl rfl)
theorem dX0_pieces_35 : decode cX0_pieces 35 = .ok (.goto (-27), 3) := dk_167 255 229 (dk_at dksX0_pieces_1 13 rfl rfl)
theorem dX0_pieces_38 : decode cX0_pieces 38 = .ok (.iload_n 1, 1) := dk_27 (dk_at dksX0_pieces_1 16 rfl rfl)
theorem dX0_pieces_39 : decode cX0_pieces 39 = .ok (.ireturn, 1) := dk_172 (dk_at dksX0_pieces_1 17 rfl rfl)
abbrev cX0_give : ByteArray := prog_1_method_85_code
def yX0_give : MethodName := ⟨RX0, "give", "(I)I"⟩
def dkwX0_give_1 : List UInt8 := [164, 0, 6, 16, 253, 172, 42, 89, 180, 1, 188, 27, 96, 181, 1, 188, 42, 180, 1, 188, 172]
abbrev dktX0_give_1 : List UInt8 := dkwX0_give_1 ++ []
def dkwX0_give_0 : List UInt8 := [27, 133, 10, 20, 2, 69, 184, 0, 9, 154, 0, 5, 2, 172, 42, 180, 1, 188, 27, 96, 19, 2, 71]
abbrev dktX0_give_0 : List UInt8 := dkwX0_give_0 ++ dktX0_give_1
theorem dksX0_give_0 : cX0_give.data.toList.drop 0 = dktX0_give_0 := by decide +kernel
theorem dksX0_give_1 : cX0_give.data.toList.drop 23 = dktX0_give_1 := dk_seg dksX0_give_0 23 rfl rfl
theorem dX0_give_0 : decode cX0_give 0 = .ok (.iload_n 1, 1) := dk_27 (dk_at dksX0_give_0 0 rfl rfl)
theorem dX0_give_1 : decode cX0_give 1 = .ok (.i2l, 1) := dk_133 (dk_at dksX0_give_0 1 rfl rfl)
theorem dX0_give_2 : decode cX0_give 2 = .ok (.lconst 1, 1) := dk_10 (dk_at dksX0_give_0 2 rfl rfl)
theorem dX0_give_3 : decode cX0_give 3 = .ok (.ldc2_w 581, 3) := dk_20 2 69 (dk_at dksX0_give_0 3 rfl rfl)
theorem dX0_give_6 : decode cX0_give 6 = .ok (.invokestatic 9, 3) := dk_184 0 9 (dk_at dksX0_give_0 6 rfl rfl)
theorem dX0_give_9 : decode cX0_give 9 = .ok (.ifCond .ne 5, 3) := dk_154 0 5 (dk_at dksX0_give_0 9 rfl rfl)
theorem dX0_give_12 : decode cX0_give 12 = .ok (.iconst (-1), 1) := dk_2 (dk_at dksX0_give_0 12 rfl rfl)
theorem dX0_give_13 : decode cX0_give 13 = .ok (.ireturn, 1) := dk_172 (dk_at dksX0_give_0 13 rfl rfl)
theorem dX0_give_14 : decode cX0_give 14 = .ok (.aload_n 0, 1) := dk_42 (dk_at dksX0_give_0 14 rfl rfl)
theorem dX0_give_15 : decode cX0_give 15 = .ok (.getfield 444, 3) := dk_180 1 188 (dk_at dksX0_give_0 15 rfl rfl)
theorem dX0_give_18 : decode cX0_give 18 = .ok (.iload_n 1, 1) := dk_27 (dk_at dksX0_give_0 18 rfl rfl)
theorem dX0_give_19 : decode cX0_give 19 = .ok (.iadd, 1) := dk_96 (dk_at dksX0_give_0 19 rfl rfl)
theorem dX0_give_20 : decode cX0_give 20 = .ok (.ldc_w 583, 3) := dk_19 2 71 (dk_at dksX0_give_0 20 rfl rfl)
theorem dX0_give_23 : decode cX0_give 23 = .ok (.if_icmp .le 6, 3) := dk_164 0 6 (dk_at dksX0_give_1 0 rfl rfl)
theorem dX0_give_26 : decode cX0_give 26 = .ok (.bipush (-3), 2) := dk_16 253 (dk_at dksX0_give_1 3 rfl rfl)
theorem dX0_give_28 : decode cX0_give 28 = .ok (.ireturn, 1) := dk_172 (dk_at dksX0_give_1 5 rfl rfl)
theorem dX0_give_29 : decode cX0_give 29 = .ok (.aload_n 0, 1) := dk_42 (dk_at dksX0_give_1 6 rfl rfl)
theorem dX0_give_30 : decode cX0_give 30 = .ok (.dup, 1) := dk_89 (dk_at dksX0_give_1 7 rfl rfl)
theorem dX0_give_31 : decode cX0_give 31 = .ok (.getfield 444, 3) := dk_180 1 188 (dk_at dksX0_give_1 8 rfl rfl)
theorem dX0_give_34 : decode cX0_give 34 = .ok (.iload_n 1, 1) := dk_27 (dk_at dksX0_give_1 11 rfl rfl)
theorem dX0_give_35 : decode cX0_give 35 = .ok (.iadd, 1) := dk_96 (dk_at dksX0_give_1 12 rfl rfl)
theorem dX0_give_36 : decode cX0_give 36 = .ok (.putfield 444, 3) := dk_181 1 188 (dk_at dksX0_give_1 13 rfl rfl)
theorem dX0_give_39 : decode cX0_give 39 = .ok (.aload_n 0, 1) := dk_42 (dk_at dksX0_give_1 16 rfl rfl)
theorem dX0_give_40 : decode cX0_give 40 = .ok (.getfield 444, 3) := dk_180 1 188 (dk_at dksX0_give_1 17 rfl rfl)
theorem dX0_give_43 : decode cX0_give 43 = .ok (.ireturn, 1) := dk_172 (dk_at dksX0_give_1 20 rfl rfl)
abbrev cX0_share : ByteArray := prog_1_method_86_code
def yX0_share : MethodName := ⟨RX0, "share", "(I)I"⟩
def dkwX0_share_3 : List UInt8 := [89, 180, 1, 188, 28, 100, 181, 1, 188, 132, 3, 1, 167, 255, 211, 28, 172]
abbrev dktX0_share_3 : List UInt8 := dkwX0_share_3 ++ []
def dkwX0_share_2 : List UInt8 := [29, 122, 4, 126, 4, 160, 0, 28, 42, 180, 0, 176, 29, 50, 89, 180, 1, 179, 28, 96, 181, 1, 179, 42]
abbrev dktX0_share_2 : List UInt8 := dkwX0_share_2 ++ dktX0_share_3
def dkwX0_share_1 : List UInt8 := [27, 184, 1, 205, 108, 61, 28, 154, 0, 6, 16, 254, 172, 3, 62, 29, 42, 180, 1, 149, 162, 0, 43, 27]
abbrev dktX0_share_1 : List UInt8 := dkwX0_share_1 ++ dktX0_share_2
def dkwX0_share_0 : List UInt8 := [27, 133, 10, 4, 42, 180, 1, 149, 120, 4, 100, 133, 184, 0, 9, 154, 0, 5, 2, 172, 42, 180, 1, 188]
abbrev dktX0_share_0 : List UInt8 := dkwX0_share_0 ++ dktX0_share_1
theorem dksX0_share_0 : cX0_share.data.toList.drop 0 = dktX0_share_0 := by decide +kernel
theorem dksX0_share_1 : cX0_share.data.toList.drop 24 = dktX0_share_1 := dk_seg dksX0_share_0 24 rfl rfl
theorem dksX0_share_2 : cX0_share.data.toList.drop 48 = dktX0_share_2 := dk_seg dksX0_share_1 24 rfl rfl
theorem dksX0_share_3 : cX0_share.data.toList.drop 72 = dktX0_share_3 := dk_seg dksX0_share_2 24 rfl rfl
theorem dX0_share_0 : decode cX0_share 0 = .ok (.iload_n 1, 1) := dk_27 (dk_at dksX0_share_0 0 rfl rfl)
theorem dX0_share_1 : decode cX0_share 1 = .ok (.i2l, 1) := dk_133 (dk_at dksX0_share_0 1 rfl rfl)
theorem dX0_share_2 : decode cX0_share 2 = .ok (.lconst 1, 1) := dk_10 (dk_at dksX0_share_0 2 rfl rfl)
theorem dX0_share_3 : decode cX0_share 3 = .ok (.iconst 1, 1) := dk_4 (dk_at dksX0_share_0 3 rfl rfl)
theorem dX0_share_4 : decode cX0_share 4 = .ok (.aload_n 0, 1) := dk_42 (dk_at dksX0_share_0 4 rfl rfl)
theorem dX0_share_5 : decode cX0_share 5 = .ok (.getfield 405, 3) := dk_180 1 149 (dk_at dksX0_share_0 5 rfl rfl)
theorem dX0_share_8 : decode cX0_share 8 = .ok (.ishl, 1) := dk_120 (dk_at dksX0_share_0 8 rfl rfl)
theorem dX0_share_9 : decode cX0_share 9 = .ok (.iconst 1, 1) := dk_4 (dk_at dksX0_share_0 9 rfl rfl)
theorem dX0_share_10 : decode cX0_share 10 = .ok (.isub, 1) := dk_100 (dk_at dksX0_share_0 10 rfl rfl)
theorem dX0_share_11 : decode cX0_share 11 = .ok (.i2l, 1) := dk_133 (dk_at dksX0_share_0 11 rfl rfl)
theorem dX0_share_12 : decode cX0_share 12 = .ok (.invokestatic 9, 3) := dk_184 0 9 (dk_at dksX0_share_0 12 rfl rfl)
theorem dX0_share_15 : decode cX0_share 15 = .ok (.ifCond .ne 5, 3) := dk_154 0 5 (dk_at dksX0_share_0 15 rfl rfl)
theorem dX0_share_18 : decode cX0_share 18 = .ok (.iconst (-1), 1) := dk_2 (dk_at dksX0_share_0 18 rfl rfl)
theorem dX0_share_19 : decode cX0_share 19 = .ok (.ireturn, 1) := dk_172 (dk_at dksX0_share_0 19 rfl rfl)
theorem dX0_share_20 : decode cX0_share 20 = .ok (.aload_n 0, 1) := dk_42 (dk_at dksX0_share_0 20 rfl rfl)
theorem dX0_share_21 : decode cX0_share 21 = .ok (.getfield 444, 3) := dk_180 1 188 (dk_at dksX0_share_0 21 rfl rfl)
theorem dX0_share_24 : decode cX0_share 24 = .ok (.iload_n 1, 1) := dk_27 (dk_at dksX0_share_1 0 rfl rfl)
theorem dX0_share_25 : decode cX0_share 25 = .ok (.invokestatic 461, 3) := dk_184 1 205 (dk_at dksX0_share_1 1 rfl rfl)
theorem dX0_share_28 : decode cX0_share 28 = .ok (.idiv, 1) := dk_108 (dk_at dksX0_share_1 4 rfl rfl)
theorem dX0_share_29 : decode cX0_share 29 = .ok (.istore_n 2, 1) := dk_61 (dk_at dksX0_share_1 5 rfl rfl)
theorem dX0_share_30 : decode cX0_share 30 = .ok (.iload_n 2, 1) := dk_28 (dk_at dksX0_share_1 6 rfl rfl)
theorem dX0_share_31 : decode cX0_share 31 = .ok (.ifCond .ne 6, 3) := dk_154 0 6 (dk_at dksX0_share_1 7 rfl rfl)
theorem dX0_share_34 : decode cX0_share 34 = .ok (.bipush (-2), 2) := dk_16 254 (dk_at dksX0_share_1 10 rfl rfl)
theorem dX0_share_36 : decode cX0_share 36 = .ok (.ireturn, 1) := dk_172 (dk_at dksX0_share_1 12 rfl rfl)
theorem dX0_share_37 : decode cX0_share 37 = .ok (.iconst 0, 1) := dk_3 (dk_at dksX0_share_1 13 rfl rfl)
theorem dX0_share_38 : decode cX0_share 38 = .ok (.istore_n 3, 1) := dk_62 (dk_at dksX0_share_1 14 rfl rfl)
theorem dX0_share_39 : decode cX0_share 39 = .ok (.iload_n 3, 1) := dk_29 (dk_at dksX0_share_1 15 rfl rfl)
theorem dX0_share_40 : decode cX0_share 40 = .ok (.aload_n 0, 1) := dk_42 (dk_at dksX0_share_1 16 rfl rfl)
theorem dX0_share_41 : decode cX0_share 41 = .ok (.getfield 405, 3) := dk_180 1 149 (dk_at dksX0_share_1 17 rfl rfl)
theorem dX0_share_44 : decode cX0_share 44 = .ok (.if_icmp .ge 43, 3) := dk_162 0 43 (dk_at dksX0_share_1 20 rfl rfl)
theorem dX0_share_47 : decode cX0_share 47 = .ok (.iload_n 1, 1) := dk_27 (dk_at dksX0_share_1 23 rfl rfl)
theorem dX0_share_48 : decode cX0_share 48 = .ok (.iload_n 3, 1) := dk_29 (dk_at dksX0_share_2 0 rfl rfl)
theorem dX0_share_49 : decode cX0_share 49 = .ok (.ishr, 1) := dk_122 (dk_at dksX0_share_2 1 rfl rfl)
theorem dX0_share_50 : decode cX0_share 50 = .ok (.iconst 1, 1) := dk_4 (dk_at dksX0_share_2 2 rfl rfl)
theorem dX0_share_51 : decode cX0_share 51 = .ok (.iand, 1) := dk_126 (dk_at dksX0_share_2 3 rfl rfl)
theorem dX0_share_52 : decode cX0_share 52 = .ok (.iconst 1, 1) := dk_4 (dk_at dksX0_share_2 4 rfl rfl)
theorem dX0_share_53 : decode cX0_share 53 = .ok (.if_icmp .ne 28, 3) := dk_160 0 28 (dk_at dksX0_share_2 5 rfl rfl)
theorem dX0_share_56 : decode cX0_share 56 = .ok (.aload_n 0, 1) := dk_42 (dk_at dksX0_share_2 8 rfl rfl)
theorem dX0_share_57 : decode cX0_share 57 = .ok (.getfield 176, 3) := dk_180 0 176 (dk_at dksX0_share_2 9 rfl rfl)
theorem dX0_share_60 : decode cX0_share 60 = .ok (.iload_n 3, 1) := dk_29 (dk_at dksX0_share_2 12 rfl rfl)
theorem dX0_share_61 : decode cX0_share 61 = .ok (.aaload, 1) := dk_50 (dk_at dksX0_share_2 13 rfl rfl)
theorem dX0_share_62 : decode cX0_share 62 = .ok (.dup, 1) := dk_89 (dk_at dksX0_share_2 14 rfl rfl)
theorem dX0_share_63 : decode cX0_share 63 = .ok (.getfield 435, 3) := dk_180 1 179 (dk_at dksX0_share_2 15 rfl rfl)
theorem dX0_share_66 : decode cX0_share 66 = .ok (.iload_n 2, 1) := dk_28 (dk_at dksX0_share_2 18 rfl rfl)
theorem dX0_share_67 : decode cX0_share 67 = .ok (.iadd, 1) := dk_96 (dk_at dksX0_share_2 19 rfl rfl)
theorem dX0_share_68 : decode cX0_share 68 = .ok (.putfield 435, 3) := dk_181 1 179 (dk_at dksX0_share_2 20 rfl rfl)
theorem dX0_share_71 : decode cX0_share 71 = .ok (.aload_n 0, 1) := dk_42 (dk_at dksX0_share_2 23 rfl rfl)
theorem dX0_share_72 : decode cX0_share 72 = .ok (.dup, 1) := dk_89 (dk_at dksX0_share_3 0 rfl rfl)
theorem dX0_share_73 : decode cX0_share 73 = .ok (.getfield 444, 3) := dk_180 1 188 (dk_at dksX0_share_3 1 rfl rfl)
theorem dX0_share_76 : decode cX0_share 76 = .ok (.iload_n 2, 1) := dk_28 (dk_at dksX0_share_3 4 rfl rfl)
theorem dX0_share_77 : decode cX0_share 77 = .ok (.isub, 1) := dk_100 (dk_at dksX0_share_3 5 rfl rfl)
theorem dX0_share_78 : decode cX0_share 78 = .ok (.putfield 444, 3) := dk_181 1 188 (dk_at dksX0_share_3 6 rfl rfl)
theorem dX0_share_81 : decode cX0_share 81 = .ok (.iinc 3 1, 3) := dk_132 3 1 (dk_at dksX0_share_3 9 rfl rfl)
theorem dX0_share_84 : decode cX0_share 84 = .ok (.goto (-45), 3) := dk_167 255 211 (dk_at dksX0_share_3 12 rfl rfl)
theorem dX0_share_87 : decode cX0_share 87 = .ok (.iload_n 2, 1) := dk_28 (dk_at dksX0_share_3 15 rfl rfl)
theorem dX0_share_88 : decode cX0_share 88 = .ok (.ireturn, 1) := dk_172 (dk_at dksX0_share_3 16 rfl rfl)
abbrev cX0_image : ByteArray := prog_1_method_87_code
def yX0_image : MethodName := ⟨RX0, "image", "()I"⟩
def dkwX0_image_5 : List UInt8 := [180, 0, 176, 27, 50, 180, 1, 179, 79, 132, 1, 1, 167, 255, 166, 4, 172]
abbrev dktX0_image_5 : List UInt8 := dkwX0_image_5 ++ []
def dkwX0_image_4 : List UInt8 := [180, 2, 85, 27, 42, 180, 0, 176, 27, 50, 180, 1, 176, 79, 42, 180, 0, 234, 180, 2, 87, 27, 42]
abbrev dktX0_image_4 : List UInt8 := dkwX0_image_4 ++ dktX0_image_5
def dkwX0_image_3 : List UInt8 := [79, 42, 180, 0, 234, 180, 2, 83, 27, 42, 180, 0, 176, 27, 50, 180, 1, 173, 84, 42, 180, 0, 234]
abbrev dktX0_image_3 : List UInt8 := dkwX0_image_3 ++ dktX0_image_4
def dkwX0_image_2 : List UInt8 := [42, 180, 0, 234, 180, 2, 80, 27, 42, 180, 0, 180, 27, 185, 0, 125, 2, 0, 192, 0, 174, 180, 1, 182]
abbrev dktX0_image_2 : List UInt8 := dkwX0_image_2 ++ dktX0_image_3
def dkwX0_image_1 : List UInt8 := [181, 2, 78, 42, 180, 0, 234, 42, 180, 1, 188, 181, 2, 79, 3, 60, 27, 42, 180, 1, 149, 162, 0, 88]
abbrev dktX0_image_1 : List UInt8 := dkwX0_image_1 ++ dktX0_image_2
def dkwX0_image_0 : List UInt8 := [42, 4, 181, 2, 72, 42, 180, 0, 234, 42, 180, 1, 149, 181, 2, 75, 42, 180, 0, 234, 42, 180, 1, 111]
abbrev dktX0_image_0 : List UInt8 := dkwX0_image_0 ++ dktX0_image_1
theorem dksX0_image_0 : cX0_image.data.toList.drop 0 = dktX0_image_0 := by decide +kernel
theorem dksX0_image_1 : cX0_image.data.toList.drop 24 = dktX0_image_1 := dk_seg dksX0_image_0 24 rfl rfl
theorem dksX0_image_2 : cX0_image.data.toList.drop 48 = dktX0_image_2 := dk_seg dksX0_image_1 24 rfl rfl
theorem dksX0_image_3 : cX0_image.data.toList.drop 72 = dktX0_image_3 := dk_seg dksX0_image_2 24 rfl rfl
theorem dksX0_image_4 : cX0_image.data.toList.drop 95 = dktX0_image_4 := dk_seg dksX0_image_3 23 rfl rfl
theorem dksX0_image_5 : cX0_image.data.toList.drop 118 = dktX0_image_5 := dk_seg dksX0_image_4 23 rfl rfl
theorem dX0_image_0 : decode cX0_image 0 = .ok (.aload_n 0, 1) := dk_42 (dk_at dksX0_image_0 0 rfl rfl)
theorem dX0_image_1 : decode cX0_image 1 = .ok (.iconst 1, 1) := dk_4 (dk_at dksX0_image_0 1 rfl rfl)
theorem dX0_image_2 : decode cX0_image 2 = .ok (.putfield 584, 3) := dk_181 2 72 (dk_at dksX0_image_0 2 rfl rfl)
theorem dX0_image_5 : decode cX0_image 5 = .ok (.aload_n 0, 1) := dk_42 (dk_at dksX0_image_0 5 rfl rfl)
theorem dX0_image_6 : decode cX0_image 6 = .ok (.getfield 234, 3) := dk_180 0 234 (dk_at dksX0_image_0 6 rfl rfl)
theorem dX0_image_9 : decode cX0_image 9 = .ok (.aload_n 0, 1) := dk_42 (dk_at dksX0_image_0 9 rfl rfl)
theorem dX0_image_10 : decode cX0_image 10 = .ok (.getfield 405, 3) := dk_180 1 149 (dk_at dksX0_image_0 10 rfl rfl)
theorem dX0_image_13 : decode cX0_image 13 = .ok (.putfield 587, 3) := dk_181 2 75 (dk_at dksX0_image_0 13 rfl rfl)
theorem dX0_image_16 : decode cX0_image 16 = .ok (.aload_n 0, 1) := dk_42 (dk_at dksX0_image_0 16 rfl rfl)
theorem dX0_image_17 : decode cX0_image 17 = .ok (.getfield 234, 3) := dk_180 0 234 (dk_at dksX0_image_0 17 rfl rfl)
theorem dX0_image_20 : decode cX0_image 20 = .ok (.aload_n 0, 1) := dk_42 (dk_at dksX0_image_0 20 rfl rfl)
theorem dX0_image_21 : decode cX0_image 21 = .ok (.getfield 367, 3) := dk_180 1 111 (dk_at dksX0_image_0 21 rfl rfl)
theorem dX0_image_24 : decode cX0_image 24 = .ok (.putfield 590, 3) := dk_181 2 78 (dk_at dksX0_image_1 0 rfl rfl)
theorem dX0_image_27 : decode cX0_image 27 = .ok (.aload_n 0, 1) := dk_42 (dk_at dksX0_image_1 3 rfl rfl)
theorem dX0_image_28 : decode cX0_image 28 = .ok (.getfield 234, 3) := dk_180 0 234 (dk_at dksX0_image_1 4 rfl rfl)
theorem dX0_image_31 : decode cX0_image 31 = .ok (.aload_n 0, 1) := dk_42 (dk_at dksX0_image_1 7 rfl rfl)
theorem dX0_image_32 : decode cX0_image 32 = .ok (.getfield 444, 3) := dk_180 1 188 (dk_at dksX0_image_1 8 rfl rfl)
theorem dX0_image_35 : decode cX0_image 35 = .ok (.putfield 591, 3) := dk_181 2 79 (dk_at dksX0_image_1 11 rfl rfl)
theorem dX0_image_38 : decode cX0_image 38 = .ok (.iconst 0, 1) := dk_3 (dk_at dksX0_image_1 14 rfl rfl)
theorem dX0_image_39 : decode cX0_image 39 = .ok (.istore_n 1, 1) := dk_60 (dk_at dksX0_image_1 15 rfl rfl)
theorem dX0_image_40 : decode cX0_image 40 = .ok (.iload_n 1, 1) := dk_27 (dk_at dksX0_image_1 16 rfl rfl)
theorem dX0_image_41 : decode cX0_image 41 = .ok (.aload_n 0, 1) := dk_42 (dk_at dksX0_image_1 17 rfl rfl)
theorem dX0_image_42 : decode cX0_image 42 = .ok (.getfield 405, 3) := dk_180 1 149 (dk_at dksX0_image_1 18 rfl rfl)
theorem dX0_image_45 : decode cX0_image 45 = .ok (.if_icmp .ge 88, 3) := dk_162 0 88 (dk_at dksX0_image_1 21 rfl rfl)
theorem dX0_image_48 : decode cX0_image 48 = .ok (.aload_n 0, 1) := dk_42 (dk_at dksX0_image_2 0 rfl rfl)
theorem dX0_image_49 : decode cX0_image 49 = .ok (.getfield 234, 3) := dk_180 0 234 (dk_at dksX0_image_2 1 rfl rfl)
theorem dX0_image_52 : decode cX0_image 52 = .ok (.getfield 592, 3) := dk_180 2 80 (dk_at dksX0_image_2 4 rfl rfl)
theorem dX0_image_55 : decode cX0_image 55 = .ok (.iload_n 1, 1) := dk_27 (dk_at dksX0_image_2 7 rfl rfl)
theorem dX0_image_56 : decode cX0_image 56 = .ok (.aload_n 0, 1) := dk_42 (dk_at dksX0_image_2 8 rfl rfl)
theorem dX0_image_57 : decode cX0_image 57 = .ok (.getfield 180, 3) := dk_180 0 180 (dk_at dksX0_image_2 9 rfl rfl)
theorem dX0_image_60 : decode cX0_image 60 = .ok (.iload_n 1, 1) := dk_27 (dk_at dksX0_image_2 12 rfl rfl)
theorem dX0_image_61 : decode cX0_image 61 = .ok (.invokeinterface 125 2, 5) := by decide +kernel
theorem dX0_image_66 : decode cX0_image 66 = .ok (.checkcast 174, 3) := dk_192 0 174 (dk_at dksX0_image_2 18 rfl rfl)
theorem dX0_image_69 : decode cX0_image 69 = .ok (.getfield 438, 3) := dk_180 1 182 (dk_at dksX0_image_2 21 rfl rfl)
theorem dX0_image_72 : decode cX0_image 72 = .ok (.iastore, 1) := dk_79 (dk_at dksX0_image_3 0 rfl rfl)
theorem dX0_image_73 : decode cX0_image 73 = .ok (.aload_n 0, 1) := dk_42 (dk_at dksX0_image_3 1 rfl rfl)
theorem dX0_image_74 : decode cX0_image 74 = .ok (.getfield 234, 3) := dk_180 0 234 (dk_at dksX0_image_3 2 rfl rfl)
theorem dX0_image_77 : decode cX0_image 77 = .ok (.getfield 595, 3) := dk_180 2 83 (dk_at dksX0_image_3 5 rfl rfl)
theorem dX0_image_80 : decode cX0_image 80 = .ok (.iload_n 1, 1) := dk_27 (dk_at dksX0_image_3 8 rfl rfl)
theorem dX0_image_81 : decode cX0_image 81 = .ok (.aload_n 0, 1) := dk_42 (dk_at dksX0_image_3 9 rfl rfl)
theorem dX0_image_82 : decode cX0_image 82 = .ok (.getfield 176, 3) := dk_180 0 176 (dk_at dksX0_image_3 10 rfl rfl)
theorem dX0_image_85 : decode cX0_image 85 = .ok (.iload_n 1, 1) := dk_27 (dk_at dksX0_image_3 13 rfl rfl)
theorem dX0_image_86 : decode cX0_image 86 = .ok (.aaload, 1) := dk_50 (dk_at dksX0_image_3 14 rfl rfl)
theorem dX0_image_87 : decode cX0_image 87 = .ok (.getfield 429, 3) := dk_180 1 173 (dk_at dksX0_image_3 15 rfl rfl)
theorem dX0_image_90 : decode cX0_image 90 = .ok (.bastore, 1) := dk_84 (dk_at dksX0_image_3 18 rfl rfl)
theorem dX0_image_91 : decode cX0_image 91 = .ok (.aload_n 0, 1) := dk_42 (dk_at dksX0_image_3 19 rfl rfl)
theorem dX0_image_92 : decode cX0_image 92 = .ok (.getfield 234, 3) := dk_180 0 234 (dk_at dksX0_image_3 20 rfl rfl)
theorem dX0_image_95 : decode cX0_image 95 = .ok (.getfield 597, 3) := dk_180 2 85 (dk_at dksX0_image_4 0 rfl rfl)
theorem dX0_image_98 : decode cX0_image 98 = .ok (.iload_n 1, 1) := dk_27 (dk_at dksX0_image_4 3 rfl rfl)
theorem dX0_image_99 : decode cX0_image 99 = .ok (.aload_n 0, 1) := dk_42 (dk_at dksX0_image_4 4 rfl rfl)
theorem dX0_image_100 : decode cX0_image 100 = .ok (.getfield 176, 3) := dk_180 0 176 (dk_at dksX0_image_4 5 rfl rfl)
theorem dX0_image_103 : decode cX0_image 103 = .ok (.iload_n 1, 1) := dk_27 (dk_at dksX0_image_4 8 rfl rfl)
theorem dX0_image_104 : decode cX0_image 104 = .ok (.aaload, 1) := dk_50 (dk_at dksX0_image_4 9 rfl rfl)
theorem dX0_image_105 : decode cX0_image 105 = .ok (.getfield 432, 3) := dk_180 1 176 (dk_at dksX0_image_4 10 rfl rfl)
theorem dX0_image_108 : decode cX0_image 108 = .ok (.iastore, 1) := dk_79 (dk_at dksX0_image_4 13 rfl rfl)
theorem dX0_image_109 : decode cX0_image 109 = .ok (.aload_n 0, 1) := dk_42 (dk_at dksX0_image_4 14 rfl rfl)
theorem dX0_image_110 : decode cX0_image 110 = .ok (.getfield 234, 3) := dk_180 0 234 (dk_at dksX0_image_4 15 rfl rfl)
theorem dX0_image_113 : decode cX0_image 113 = .ok (.getfield 599, 3) := dk_180 2 87 (dk_at dksX0_image_4 18 rfl rfl)
theorem dX0_image_116 : decode cX0_image 116 = .ok (.iload_n 1, 1) := dk_27 (dk_at dksX0_image_4 21 rfl rfl)
theorem dX0_image_117 : decode cX0_image 117 = .ok (.aload_n 0, 1) := dk_42 (dk_at dksX0_image_4 22 rfl rfl)
theorem dX0_image_118 : decode cX0_image 118 = .ok (.getfield 176, 3) := dk_180 0 176 (dk_at dksX0_image_5 0 rfl rfl)
theorem dX0_image_121 : decode cX0_image 121 = .ok (.iload_n 1, 1) := dk_27 (dk_at dksX0_image_5 3 rfl rfl)
theorem dX0_image_122 : decode cX0_image 122 = .ok (.aaload, 1) := dk_50 (dk_at dksX0_image_5 4 rfl rfl)
theorem dX0_image_123 : decode cX0_image 123 = .ok (.getfield 435, 3) := dk_180 1 179 (dk_at dksX0_image_5 5 rfl rfl)
theorem dX0_image_126 : decode cX0_image 126 = .ok (.iastore, 1) := dk_79 (dk_at dksX0_image_5 8 rfl rfl)
theorem dX0_image_127 : decode cX0_image 127 = .ok (.iinc 1 1, 3) := dk_132 1 1 (dk_at dksX0_image_5 9 rfl rfl)
theorem dX0_image_130 : decode cX0_image 130 = .ok (.goto (-90), 3) := dk_167 255 166 (dk_at dksX0_image_5 12 rfl rfl)
theorem dX0_image_133 : decode cX0_image 133 = .ok (.iconst 1, 1) := dk_4 (dk_at dksX0_image_5 15 rfl rfl)
theorem dX0_image_134 : decode cX0_image 134 = .ok (.ireturn, 1) := dk_172 (dk_at dksX0_image_5 16 rfl rfl)
abbrev cX0_back : ByteArray := prog_1_method_88_code
def yX0_back : MethodName := ⟨RX0, "back", "()I"⟩
def dkwX0_back_8 : List UInt8 := [167, 255, 114, 42, 180, 0, 234, 180, 2, 75, 172]
abbrev dktX0_back_8 : List UInt8 := dkwX0_back_8 ++ []
def dkwX0_back_7 : List UInt8 := [153, 0, 15, 42, 180, 0, 234, 180, 2, 87, 27, 46, 167, 0, 4, 3, 181, 1, 179, 132, 1, 1]
abbrev dktX0_back_7 : List UInt8 := dkwX0_back_7 ++ dktX0_back_8
def dkwX0_back_6 : List UInt8 := [180, 0, 234, 180, 2, 85, 27, 46, 167, 0, 4, 3, 181, 1, 176, 42, 180, 0, 176, 27, 50, 28]
abbrev dktX0_back_6 : List UInt8 := dkwX0_back_6 ++ dktX0_back_7
def dkwX0_back_5 : List UInt8 := [27, 51, 153, 0, 7, 4, 167, 0, 4, 3, 181, 1, 173, 42, 180, 0, 176, 27, 50, 28, 153, 0, 15, 42]
abbrev dktX0_back_5 : List UInt8 := dkwX0_back_5 ++ dktX0_back_6
def dkwX0_back_4 : List UInt8 := [50, 185, 0, 98, 2, 0, 87, 42, 180, 0, 176, 27, 50, 28, 153, 0, 19, 42, 180, 0, 234, 180, 2, 83]
abbrev dktX0_back_4 : List UInt8 := dkwX0_back_4 ++ dktX0_back_5
def dkwX0_back_3 : List UInt8 := [180, 0, 180, 42, 180, 0, 176, 28, 153, 0, 15, 42, 180, 0, 234, 180, 2, 80, 27, 46, 167, 0, 4, 27]
abbrev dktX0_back_3 : List UInt8 := dkwX0_back_3 ++ dktX0_back_4
def dkwX0_back_2 : List UInt8 := [180, 1, 149, 162, 0, 140, 27, 42, 180, 0, 234, 180, 2, 75, 162, 0, 7, 4, 167, 0, 4, 3, 61, 42]
abbrev dktX0_back_2 : List UInt8 := dkwX0_back_2 ++ dktX0_back_3
def dkwX0_back_1 : List UInt8 := [180, 0, 234, 180, 2, 79, 181, 1, 188, 42, 180, 0, 180, 185, 2, 89, 1, 0, 3, 60, 27, 42]
abbrev dktX0_back_1 : List UInt8 := dkwX0_back_1 ++ dktX0_back_2
def dkwX0_back_0 : List UInt8 := [42, 180, 2, 72, 154, 0, 6, 16, 252, 172, 42, 42, 180, 0, 234, 180, 2, 78, 181, 1, 111, 42, 42]
abbrev dktX0_back_0 : List UInt8 := dkwX0_back_0 ++ dktX0_back_1
theorem dksX0_back_0 : cX0_back.data.toList.drop 0 = dktX0_back_0 := by decide +kernel
theorem dksX0_back_1 : cX0_back.data.toList.drop 23 = dktX0_back_1 := dk_seg dksX0_back_0 23 rfl rfl
theorem dksX0_back_2 : cX0_back.data.toList.drop 45 = dktX0_back_2 := dk_seg dksX0_back_1 22 rfl rfl
theorem dksX0_back_3 : cX0_back.data.toList.drop 69 = dktX0_back_3 := dk_seg dksX0_back_2 24 rfl rfl
theorem dksX0_back_4 : cX0_back.data.toList.drop 93 = dktX0_back_4 := dk_seg dksX0_back_3 24 rfl rfl
theorem dksX0_back_5 : cX0_back.data.toList.drop 117 = dktX0_back_5 := dk_seg dksX0_back_4 24 rfl rfl
theorem dksX0_back_6 : cX0_back.data.toList.drop 141 = dktX0_back_6 := dk_seg dksX0_back_5 24 rfl rfl
theorem dksX0_back_7 : cX0_back.data.toList.drop 163 = dktX0_back_7 := dk_seg dksX0_back_6 22 rfl rfl
theorem dksX0_back_8 : cX0_back.data.toList.drop 185 = dktX0_back_8 := dk_seg dksX0_back_7 22 rfl rfl
theorem dX0_back_0 : decode cX0_back 0 = .ok (.aload_n 0, 1) := dk_42 (dk_at dksX0_back_0 0 rfl rfl)
theorem dX0_back_1 : decode cX0_back 1 = .ok (.getfield 584, 3) := dk_180 2 72 (dk_at dksX0_back_0 1 rfl rfl)
theorem dX0_back_4 : decode cX0_back 4 = .ok (.ifCond .ne 6, 3) := dk_154 0 6 (dk_at dksX0_back_0 4 rfl rfl)
theorem dX0_back_7 : decode cX0_back 7 = .ok (.bipush (-4), 2) := dk_16 252 (dk_at dksX0_back_0 7 rfl rfl)
theorem dX0_back_9 : decode cX0_back 9 = .ok (.ireturn, 1) := dk_172 (dk_at dksX0_back_0 9 rfl rfl)
theorem dX0_back_10 : decode cX0_back 10 = .ok (.aload_n 0, 1) := dk_42 (dk_at dksX0_back_0 10 rfl rfl)
theorem dX0_back_11 : decode cX0_back 11 = .ok (.aload_n 0, 1) := dk_42 (dk_at dksX0_back_0 11 rfl rfl)
theorem dX0_back_12 : decode cX0_back 12 = .ok (.getfield 234, 3) := dk_180 0 234 (dk_at dksX0_back_0 12 rfl rfl)
theorem dX0_back_15 : decode cX0_back 15 = .ok (.getfield 590, 3) := dk_180 2 78 (dk_at dksX0_back_0 15 rfl rfl)
theorem dX0_back_18 : decode cX0_back 18 = .ok (.putfield 367, 3) := dk_181 1 111 (dk_at dksX0_back_0 18 rfl rfl)
theorem dX0_back_21 : decode cX0_back 21 = .ok (.aload_n 0, 1) := dk_42 (dk_at dksX0_back_0 21 rfl rfl)
theorem dX0_back_22 : decode cX0_back 22 = .ok (.aload_n 0, 1) := dk_42 (dk_at dksX0_back_0 22 rfl rfl)
theorem dX0_back_23 : decode cX0_back 23 = .ok (.getfield 234, 3) := dk_180 0 234 (dk_at dksX0_back_1 0 rfl rfl)
theorem dX0_back_26 : decode cX0_back 26 = .ok (.getfield 591, 3) := dk_180 2 79 (dk_at dksX0_back_1 3 rfl rfl)
theorem dX0_back_29 : decode cX0_back 29 = .ok (.putfield 444, 3) := dk_181 1 188 (dk_at dksX0_back_1 6 rfl rfl)
theorem dX0_back_32 : decode cX0_back 32 = .ok (.aload_n 0, 1) := dk_42 (dk_at dksX0_back_1 9 rfl rfl)
theorem dX0_back_33 : decode cX0_back 33 = .ok (.getfield 180, 3) := dk_180 0 180 (dk_at dksX0_back_1 10 rfl rfl)
theorem dX0_back_36 : decode cX0_back 36 = .ok (.invokeinterface 601 1, 5) := by decide +kernel
theorem dX0_back_41 : decode cX0_back 41 = .ok (.iconst 0, 1) := dk_3 (dk_at dksX0_back_1 18 rfl rfl)
theorem dX0_back_42 : decode cX0_back 42 = .ok (.istore_n 1, 1) := dk_60 (dk_at dksX0_back_1 19 rfl rfl)
theorem dX0_back_43 : decode cX0_back 43 = .ok (.iload_n 1, 1) := dk_27 (dk_at dksX0_back_1 20 rfl rfl)
theorem dX0_back_44 : decode cX0_back 44 = .ok (.aload_n 0, 1) := dk_42 (dk_at dksX0_back_1 21 rfl rfl)
theorem dX0_back_45 : decode cX0_back 45 = .ok (.getfield 405, 3) := dk_180 1 149 (dk_at dksX0_back_2 0 rfl rfl)
theorem dX0_back_48 : decode cX0_back 48 = .ok (.if_icmp .ge 140, 3) := dk_162 0 140 (dk_at dksX0_back_2 3 rfl rfl)
theorem dX0_back_51 : decode cX0_back 51 = .ok (.iload_n 1, 1) := dk_27 (dk_at dksX0_back_2 6 rfl rfl)
theorem dX0_back_52 : decode cX0_back 52 = .ok (.aload_n 0, 1) := dk_42 (dk_at dksX0_back_2 7 rfl rfl)
theorem dX0_back_53 : decode cX0_back 53 = .ok (.getfield 234, 3) := dk_180 0 234 (dk_at dksX0_back_2 8 rfl rfl)
theorem dX0_back_56 : decode cX0_back 56 = .ok (.getfield 587, 3) := dk_180 2 75 (dk_at dksX0_back_2 11 rfl rfl)
theorem dX0_back_59 : decode cX0_back 59 = .ok (.if_icmp .ge 7, 3) := dk_162 0 7 (dk_at dksX0_back_2 14 rfl rfl)
theorem dX0_back_62 : decode cX0_back 62 = .ok (.iconst 1, 1) := dk_4 (dk_at dksX0_back_2 17 rfl rfl)
theorem dX0_back_63 : decode cX0_back 63 = .ok (.goto 4, 3) := dk_167 0 4 (dk_at dksX0_back_2 18 rfl rfl)
theorem dX0_back_66 : decode cX0_back 66 = .ok (.iconst 0, 1) := dk_3 (dk_at dksX0_back_2 21 rfl rfl)
theorem dX0_back_67 : decode cX0_back 67 = .ok (.istore_n 2, 1) := dk_61 (dk_at dksX0_back_2 22 rfl rfl)
theorem dX0_back_68 : decode cX0_back 68 = .ok (.aload_n 0, 1) := dk_42 (dk_at dksX0_back_2 23 rfl rfl)
theorem dX0_back_69 : decode cX0_back 69 = .ok (.getfield 180, 3) := dk_180 0 180 (dk_at dksX0_back_3 0 rfl rfl)
theorem dX0_back_72 : decode cX0_back 72 = .ok (.aload_n 0, 1) := dk_42 (dk_at dksX0_back_3 3 rfl rfl)
theorem dX0_back_73 : decode cX0_back 73 = .ok (.getfield 176, 3) := dk_180 0 176 (dk_at dksX0_back_3 4 rfl rfl)
theorem dX0_back_76 : decode cX0_back 76 = .ok (.iload_n 2, 1) := dk_28 (dk_at dksX0_back_3 7 rfl rfl)
theorem dX0_back_77 : decode cX0_back 77 = .ok (.ifCond .eq 15, 3) := dk_153 0 15 (dk_at dksX0_back_3 8 rfl rfl)
theorem dX0_back_80 : decode cX0_back 80 = .ok (.aload_n 0, 1) := dk_42 (dk_at dksX0_back_3 11 rfl rfl)
theorem dX0_back_81 : decode cX0_back 81 = .ok (.getfield 234, 3) := dk_180 0 234 (dk_at dksX0_back_3 12 rfl rfl)
theorem dX0_back_84 : decode cX0_back 84 = .ok (.getfield 592, 3) := dk_180 2 80 (dk_at dksX0_back_3 15 rfl rfl)
theorem dX0_back_87 : decode cX0_back 87 = .ok (.iload_n 1, 1) := dk_27 (dk_at dksX0_back_3 18 rfl rfl)
theorem dX0_back_88 : decode cX0_back 88 = .ok (.iaload, 1) := dk_46 (dk_at dksX0_back_3 19 rfl rfl)
theorem dX0_back_89 : decode cX0_back 89 = .ok (.goto 4, 3) := dk_167 0 4 (dk_at dksX0_back_3 20 rfl rfl)
theorem dX0_back_92 : decode cX0_back 92 = .ok (.iload_n 1, 1) := dk_27 (dk_at dksX0_back_3 23 rfl rfl)
theorem dX0_back_93 : decode cX0_back 93 = .ok (.aaload, 1) := dk_50 (dk_at dksX0_back_4 0 rfl rfl)
theorem dX0_back_94 : decode cX0_back 94 = .ok (.invokeinterface 98 2, 5) := by decide +kernel
theorem dX0_back_99 : decode cX0_back 99 = .ok (.pop, 1) := dk_87 (dk_at dksX0_back_4 6 rfl rfl)
theorem dX0_back_100 : decode cX0_back 100 = .ok (.aload_n 0, 1) := dk_42 (dk_at dksX0_back_4 7 rfl rfl)
theorem dX0_back_101 : decode cX0_back 101 = .ok (.getfield 176, 3) := dk_180 0 176 (dk_at dksX0_back_4 8 rfl rfl)
theorem dX0_back_104 : decode cX0_back 104 = .ok (.iload_n 1, 1) := dk_27 (dk_at dksX0_back_4 11 rfl rfl)
theorem dX0_back_105 : decode cX0_back 105 = .ok (.aaload, 1) := dk_50 (dk_at dksX0_back_4 12 rfl rfl)
theorem dX0_back_106 : decode cX0_back 106 = .ok (.iload_n 2, 1) := dk_28 (dk_at dksX0_back_4 13 rfl rfl)
theorem dX0_back_107 : decode cX0_back 107 = .ok (.ifCond .eq 19, 3) := dk_153 0 19 (dk_at dksX0_back_4 14 rfl rfl)
theorem dX0_back_110 : decode cX0_back 110 = .ok (.aload_n 0, 1) := dk_42 (dk_at dksX0_back_4 17 rfl rfl)
theorem dX0_back_111 : decode cX0_back 111 = .ok (.getfield 234, 3) := dk_180 0 234 (dk_at dksX0_back_4 18 rfl rfl)
theorem dX0_back_114 : decode cX0_back 114 = .ok (.getfield 595, 3) := dk_180 2 83 (dk_at dksX0_back_4 21 rfl rfl)
theorem dX0_back_117 : decode cX0_back 117 = .ok (.iload_n 1, 1) := dk_27 (dk_at dksX0_back_5 0 rfl rfl)
theorem dX0_back_118 : decode cX0_back 118 = .ok (.baload, 1) := dk_51 (dk_at dksX0_back_5 1 rfl rfl)
theorem dX0_back_119 : decode cX0_back 119 = .ok (.ifCond .eq 7, 3) := dk_153 0 7 (dk_at dksX0_back_5 2 rfl rfl)
theorem dX0_back_122 : decode cX0_back 122 = .ok (.iconst 1, 1) := dk_4 (dk_at dksX0_back_5 5 rfl rfl)
theorem dX0_back_123 : decode cX0_back 123 = .ok (.goto 4, 3) := dk_167 0 4 (dk_at dksX0_back_5 6 rfl rfl)
theorem dX0_back_126 : decode cX0_back 126 = .ok (.iconst 0, 1) := dk_3 (dk_at dksX0_back_5 9 rfl rfl)
theorem dX0_back_127 : decode cX0_back 127 = .ok (.putfield 429, 3) := dk_181 1 173 (dk_at dksX0_back_5 10 rfl rfl)
theorem dX0_back_130 : decode cX0_back 130 = .ok (.aload_n 0, 1) := dk_42 (dk_at dksX0_back_5 13 rfl rfl)
theorem dX0_back_131 : decode cX0_back 131 = .ok (.getfield 176, 3) := dk_180 0 176 (dk_at dksX0_back_5 14 rfl rfl)
theorem dX0_back_134 : decode cX0_back 134 = .ok (.iload_n 1, 1) := dk_27 (dk_at dksX0_back_5 17 rfl rfl)
theorem dX0_back_135 : decode cX0_back 135 = .ok (.aaload, 1) := dk_50 (dk_at dksX0_back_5 18 rfl rfl)
theorem dX0_back_136 : decode cX0_back 136 = .ok (.iload_n 2, 1) := dk_28 (dk_at dksX0_back_5 19 rfl rfl)
theorem dX0_back_137 : decode cX0_back 137 = .ok (.ifCond .eq 15, 3) := dk_153 0 15 (dk_at dksX0_back_5 20 rfl rfl)
theorem dX0_back_140 : decode cX0_back 140 = .ok (.aload_n 0, 1) := dk_42 (dk_at dksX0_back_5 23 rfl rfl)
theorem dX0_back_141 : decode cX0_back 141 = .ok (.getfield 234, 3) := dk_180 0 234 (dk_at dksX0_back_6 0 rfl rfl)
theorem dX0_back_144 : decode cX0_back 144 = .ok (.getfield 597, 3) := dk_180 2 85 (dk_at dksX0_back_6 3 rfl rfl)
theorem dX0_back_147 : decode cX0_back 147 = .ok (.iload_n 1, 1) := dk_27 (dk_at dksX0_back_6 6 rfl rfl)
theorem dX0_back_148 : decode cX0_back 148 = .ok (.iaload, 1) := dk_46 (dk_at dksX0_back_6 7 rfl rfl)
theorem dX0_back_149 : decode cX0_back 149 = .ok (.goto 4, 3) := dk_167 0 4 (dk_at dksX0_back_6 8 rfl rfl)
theorem dX0_back_152 : decode cX0_back 152 = .ok (.iconst 0, 1) := dk_3 (dk_at dksX0_back_6 11 rfl rfl)
theorem dX0_back_153 : decode cX0_back 153 = .ok (.putfield 432, 3) := dk_181 1 176 (dk_at dksX0_back_6 12 rfl rfl)
theorem dX0_back_156 : decode cX0_back 156 = .ok (.aload_n 0, 1) := dk_42 (dk_at dksX0_back_6 15 rfl rfl)
theorem dX0_back_157 : decode cX0_back 157 = .ok (.getfield 176, 3) := dk_180 0 176 (dk_at dksX0_back_6 16 rfl rfl)
theorem dX0_back_160 : decode cX0_back 160 = .ok (.iload_n 1, 1) := dk_27 (dk_at dksX0_back_6 19 rfl rfl)
theorem dX0_back_161 : decode cX0_back 161 = .ok (.aaload, 1) := dk_50 (dk_at dksX0_back_6 20 rfl rfl)
theorem dX0_back_162 : decode cX0_back 162 = .ok (.iload_n 2, 1) := dk_28 (dk_at dksX0_back_6 21 rfl rfl)
theorem dX0_back_163 : decode cX0_back 163 = .ok (.ifCond .eq 15, 3) := dk_153 0 15 (dk_at dksX0_back_7 0 rfl rfl)
theorem dX0_back_166 : decode cX0_back 166 = .ok (.aload_n 0, 1) := dk_42 (dk_at dksX0_back_7 3 rfl rfl)
theorem dX0_back_167 : decode cX0_back 167 = .ok (.getfield 234, 3) := dk_180 0 234 (dk_at dksX0_back_7 4 rfl rfl)
theorem dX0_back_170 : decode cX0_back 170 = .ok (.getfield 599, 3) := dk_180 2 87 (dk_at dksX0_back_7 7 rfl rfl)
theorem dX0_back_173 : decode cX0_back 173 = .ok (.iload_n 1, 1) := dk_27 (dk_at dksX0_back_7 10 rfl rfl)
theorem dX0_back_174 : decode cX0_back 174 = .ok (.iaload, 1) := dk_46 (dk_at dksX0_back_7 11 rfl rfl)
theorem dX0_back_175 : decode cX0_back 175 = .ok (.goto 4, 3) := dk_167 0 4 (dk_at dksX0_back_7 12 rfl rfl)
theorem dX0_back_178 : decode cX0_back 178 = .ok (.iconst 0, 1) := dk_3 (dk_at dksX0_back_7 15 rfl rfl)
theorem dX0_back_179 : decode cX0_back 179 = .ok (.putfield 435, 3) := dk_181 1 179 (dk_at dksX0_back_7 16 rfl rfl)
theorem dX0_back_182 : decode cX0_back 182 = .ok (.iinc 1 1, 3) := dk_132 1 1 (dk_at dksX0_back_7 19 rfl rfl)
theorem dX0_back_185 : decode cX0_back 185 = .ok (.goto (-142), 3) := dk_167 255 114 (dk_at dksX0_back_8 0 rfl rfl)
theorem dX0_back_188 : decode cX0_back 188 = .ok (.aload_n 0, 1) := dk_42 (dk_at dksX0_back_8 3 rfl rfl)
theorem dX0_back_189 : decode cX0_back 189 = .ok (.getfield 234, 3) := dk_180 0 234 (dk_at dksX0_back_8 4 rfl rfl)
theorem dX0_back_192 : decode cX0_back 192 = .ok (.getfield 587, 3) := dk_180 2 75 (dk_at dksX0_back_8 7 rfl rfl)
theorem dX0_back_195 : decode cX0_back 195 = .ok (.ireturn, 1) := dk_172 (dk_at dksX0_back_8 10 rfl rfl)
abbrev cX0_count : ByteArray := prog_1_method_89_code
def yX0_count : MethodName := ⟨RX0, "count", "(I)I"⟩
def dkwX0_count_8 : List UInt8 := [172]
abbrev dktX0_count_8 : List UInt8 := dkwX0_count_8 ++ []
def dkwX0_count_7 : List UInt8 := [153, 0, 7, 4, 167, 0, 4, 3, 96, 61, 132, 3, 1, 167, 255, 225, 28, 172, 42, 180, 1, 82, 172, 2]
abbrev dktX0_count_7 : List UInt8 := dkwX0_count_7 ++ dktX0_count_8
def dkwX0_count_6 : List UInt8 := [182, 2, 35, 3, 62, 29, 42, 180, 1, 223, 162, 0, 29, 28, 42, 180, 0, 197, 29, 50, 180, 2, 6]
abbrev dktX0_count_6 : List UInt8 := dkwX0_count_6 ++ dktX0_count_7
def dkwX0_count_5 : List UInt8 := [29, 50, 180, 1, 173, 153, 0, 7, 4, 167, 0, 4, 3, 96, 61, 132, 3, 1, 167, 255, 225, 28, 172, 42]
abbrev dktX0_count_5 : List UInt8 := dkwX0_count_5 ++ dktX0_count_6
def dkwX0_count_4 : List UInt8 := [180, 1, 188, 172, 42, 180, 1, 111, 172, 3, 62, 29, 42, 180, 1, 149, 162, 0, 29, 28, 42, 180, 0, 176]
abbrev dktX0_count_4 : List UInt8 := dkwX0_count_4 ++ dktX0_count_5
def dkwX0_count_3 : List UInt8 := [185, 0, 110, 1, 0, 172, 42, 180, 1, 194, 172, 42, 180, 1, 223, 172, 42, 180, 2, 40, 172, 42]
abbrev dktX0_count_3 : List UInt8 := dkwX0_count_3 ++ dktX0_count_4
def dkwX0_count_2 : List UInt8 := [42, 180, 0, 5, 172, 42, 180, 0, 13, 172, 42, 180, 0, 16, 172, 42, 180, 1, 149, 172, 42, 180, 0, 168]
abbrev dktX0_count_2 : List UInt8 := dkwX0_count_2 ++ dktX0_count_3
def dkwX0_count_1 : List UInt8 := [170, 0, 0, 0, 205, 0, 0, 0, 0, 0, 0, 0, 12, 0, 0, 0, 65, 0, 0, 0, 70, 0, 0, 0, 75, 0, 0, 0, 80, 0, 0, 0, 85, 0, 0, 0, 95, 0, 0, 0, 100, 0, 0, 0, 105, 0, 0, 0, 110, 0, 0, 0, 115, 0, 0, 0, 120, 0, 0, 0, 158, 0, 0, 0, 200]
abbrev dktX0_count_1 : List UInt8 := dkwX0_count_1 ++ dktX0_count_2
def dkwX0_count_0 : List UInt8 := [3, 61, 27]
abbrev dktX0_count_0 : List UInt8 := dkwX0_count_0 ++ dktX0_count_1
theorem dksX0_count_0 : cX0_count.data.toList.drop 0 = dktX0_count_0 := by decide +kernel
theorem dksX0_count_1 : cX0_count.data.toList.drop 3 = dktX0_count_1 := dk_seg dksX0_count_0 3 rfl rfl
theorem dksX0_count_2 : cX0_count.data.toList.drop 68 = dktX0_count_2 := dk_seg dksX0_count_1 65 rfl rfl
theorem dksX0_count_3 : cX0_count.data.toList.drop 92 = dktX0_count_3 := dk_seg dksX0_count_2 24 rfl rfl
theorem dksX0_count_4 : cX0_count.data.toList.drop 114 = dktX0_count_4 := dk_seg dksX0_count_3 22 rfl rfl
theorem dksX0_count_5 : cX0_count.data.toList.drop 138 = dktX0_count_5 := dk_seg dksX0_count_4 24 rfl rfl
theorem dksX0_count_6 : cX0_count.data.toList.drop 162 = dktX0_count_6 := dk_seg dksX0_count_5 24 rfl rfl
theorem dksX0_count_7 : cX0_count.data.toList.drop 185 = dktX0_count_7 := dk_seg dksX0_count_6 23 rfl rfl
theorem dksX0_count_8 : cX0_count.data.toList.drop 209 = dktX0_count_8 := dk_seg dksX0_count_7 24 rfl rfl
theorem dX0_count_0 : decode cX0_count 0 = .ok (.iconst 0, 1) := dk_3 (dk_at dksX0_count_0 0 rfl rfl)
theorem dX0_count_1 : decode cX0_count 1 = .ok (.istore_n 2, 1) := dk_61 (dk_at dksX0_count_0 1 rfl rfl)
theorem dX0_count_2 : decode cX0_count 2 = .ok (.iload_n 1, 1) := dk_27 (dk_at dksX0_count_0 2 rfl rfl)
theorem dX0_count_3 : decode cX0_count 3 = .ok (.tableswitch 205 0 12 #[65, 70, 75, 80, 85, 95, 100, 105, 110, 115, 120, 158, 200], 65) := by decide +kernel
theorem dX0_count_68 : decode cX0_count 68 = .ok (.aload_n 0, 1) := dk_42 (dk_at dksX0_count_2 0 rfl rfl)
theorem dX0_count_69 : decode cX0_count 69 = .ok (.getfield 5, 3) := dk_180 0 5 (dk_at dksX0_count_2 1 rfl rfl)
theorem dX0_count_72 : decode cX0_count 72 = .ok (.ireturn, 1) := dk_172 (dk_at dksX0_count_2 4 rfl rfl)
theorem dX0_count_73 : decode cX0_count 73 = .ok (.aload_n 0, 1) := dk_42 (dk_at dksX0_count_2 5 rfl rfl)
theorem dX0_count_74 : decode cX0_count 74 = .ok (.getfield 13, 3) := dk_180 0 13 (dk_at dksX0_count_2 6 rfl rfl)
theorem dX0_count_77 : decode cX0_count 77 = .ok (.ireturn, 1) := dk_172 (dk_at dksX0_count_2 9 rfl rfl)
theorem dX0_count_78 : decode cX0_count 78 = .ok (.aload_n 0, 1) := dk_42 (dk_at dksX0_count_2 10 rfl rfl)
theorem dX0_count_79 : decode cX0_count 79 = .ok (.getfield 16, 3) := dk_180 0 16 (dk_at dksX0_count_2 11 rfl rfl)
theorem dX0_count_82 : decode cX0_count 82 = .ok (.ireturn, 1) := dk_172 (dk_at dksX0_count_2 14 rfl rfl)
theorem dX0_count_83 : decode cX0_count 83 = .ok (.aload_n 0, 1) := dk_42 (dk_at dksX0_count_2 15 rfl rfl)
theorem dX0_count_84 : decode cX0_count 84 = .ok (.getfield 405, 3) := dk_180 1 149 (dk_at dksX0_count_2 16 rfl rfl)
theorem dX0_count_87 : decode cX0_count 87 = .ok (.ireturn, 1) := dk_172 (dk_at dksX0_count_2 19 rfl rfl)
theorem dX0_count_88 : decode cX0_count 88 = .ok (.aload_n 0, 1) := dk_42 (dk_at dksX0_count_2 20 rfl rfl)
theorem dX0_count_89 : decode cX0_count 89 = .ok (.getfield 168, 3) := dk_180 0 168 (dk_at dksX0_count_2 21 rfl rfl)
theorem dX0_count_92 : decode cX0_count 92 = .ok (.invokeinterface 110 1, 5) := by decide +kernel
theorem dX0_count_97 : decode cX0_count 97 = .ok (.ireturn, 1) := dk_172 (dk_at dksX0_count_3 5 rfl rfl)
theorem dX0_count_98 : decode cX0_count 98 = .ok (.aload_n 0, 1) := dk_42 (dk_at dksX0_count_3 6 rfl rfl)
theorem dX0_count_99 : decode cX0_count 99 = .ok (.getfield 450, 3) := dk_180 1 194 (dk_at dksX0_count_3 7 rfl rfl)
theorem dX0_count_102 : decode cX0_count 102 = .ok (.ireturn, 1) := dk_172 (dk_at dksX0_count_3 10 rfl rfl)
theorem dX0_count_103 : decode cX0_count 103 = .ok (.aload_n 0, 1) := dk_42 (dk_at dksX0_count_3 11 rfl rfl)
theorem dX0_count_104 : decode cX0_count 104 = .ok (.getfield 479, 3) := dk_180 1 223 (dk_at dksX0_count_3 12 rfl rfl)
theorem dX0_count_107 : decode cX0_count 107 = .ok (.ireturn, 1) := dk_172 (dk_at dksX0_count_3 15 rfl rfl)
theorem dX0_count_108 : decode cX0_count 108 = .ok (.aload_n 0, 1) := dk_42 (dk_at dksX0_count_3 16 rfl rfl)
theorem dX0_count_109 : decode cX0_count 109 = .ok (.getfield 552, 3) := dk_180 2 40 (dk_at dksX0_count_3 17 rfl rfl)
theorem dX0_count_112 : decode cX0_count 112 = .ok (.ireturn, 1) := dk_172 (dk_at dksX0_count_3 20 rfl rfl)
theorem dX0_count_113 : decode cX0_count 113 = .ok (.aload_n 0, 1) := dk_42 (dk_at dksX0_count_3 21 rfl rfl)
theorem dX0_count_114 : decode cX0_count 114 = .ok (.getfield 444, 3) := dk_180 1 188 (dk_at dksX0_count_4 0 rfl rfl)
theorem dX0_count_117 : decode cX0_count 117 = .ok (.ireturn, 1) := dk_172 (dk_at dksX0_count_4 3 rfl rfl)
theorem dX0_count_118 : decode cX0_count 118 = .ok (.aload_n 0, 1) := dk_42 (dk_at dksX0_count_4 4 rfl rfl)
theorem dX0_count_119 : decode cX0_count 119 = .ok (.getfield 367, 3) := dk_180 1 111 (dk_at dksX0_count_4 5 rfl rfl)
theorem dX0_count_122 : decode cX0_count 122 = .ok (.ireturn, 1) := dk_172 (dk_at dksX0_count_4 8 rfl rfl)
theorem dX0_count_123 : decode cX0_count 123 = .ok (.iconst 0, 1) := dk_3 (dk_at dksX0_count_4 9 rfl rfl)
theorem dX0_count_124 : decode cX0_count 124 = .ok (.istore_n 3, 1) := dk_62 (dk_at dksX0_count_4 10 rfl rfl)
theorem dX0_count_125 : decode cX0_count 125 = .ok (.iload_n 3, 1) := dk_29 (dk_at dksX0_count_4 11 rfl rfl)
theorem dX0_count_126 : decode cX0_count 126 = .ok (.aload_n 0, 1) := dk_42 (dk_at dksX0_count_4 12 rfl rfl)
theorem dX0_count_127 : decode cX0_count 127 = .ok (.getfield 405, 3) := dk_180 1 149 (dk_at dksX0_count_4 13 rfl rfl)
theorem dX0_count_130 : decode cX0_count 130 = .ok (.if_icmp .ge 29, 3) := dk_162 0 29 (dk_at dksX0_count_4 16 rfl rfl)
theorem dX0_count_133 : decode cX0_count 133 = .ok (.iload_n 2, 1) := dk_28 (dk_at dksX0_count_4 19 rfl rfl)
theorem dX0_count_134 : decode cX0_count 134 = .ok (.aload_n 0, 1) := dk_42 (dk_at dksX0_count_4 20 rfl rfl)
theorem dX0_count_135 : decode cX0_count 135 = .ok (.getfield 176, 3) := dk_180 0 176 (dk_at dksX0_count_4 21 rfl rfl)
theorem dX0_count_138 : decode cX0_count 138 = .ok (.iload_n 3, 1) := dk_29 (dk_at dksX0_count_5 0 rfl rfl)
theorem dX0_count_139 : decode cX0_count 139 = .ok (.aaload, 1) := dk_50 (dk_at dksX0_count_5 1 rfl rfl)
theorem dX0_count_140 : decode cX0_count 140 = .ok (.getfield 429, 3) := dk_180 1 173 (dk_at dksX0_count_5 2 rfl rfl)
theorem dX0_count_143 : decode cX0_count 143 = .ok (.ifCond .eq 7, 3) := dk_153 0 7 (dk_at dksX0_count_5 5 rfl rfl)
theorem dX0_count_146 : decode cX0_count 146 = .ok (.iconst 1, 1) := dk_4 (dk_at dksX0_count_5 8 rfl rfl)
theorem dX0_count_147 : decode cX0_count 147 = .ok (.goto 4, 3) := dk_167 0 4 (dk_at dksX0_count_5 9 rfl rfl)
theorem dX0_count_150 : decode cX0_count 150 = .ok (.iconst 0, 1) := dk_3 (dk_at dksX0_count_5 12 rfl rfl)
theorem dX0_count_151 : decode cX0_count 151 = .ok (.iadd, 1) := dk_96 (dk_at dksX0_count_5 13 rfl rfl)
theorem dX0_count_152 : decode cX0_count 152 = .ok (.istore_n 2, 1) := dk_61 (dk_at dksX0_count_5 14 rfl rfl)
theorem dX0_count_153 : decode cX0_count 153 = .ok (.iinc 3 1, 3) := dk_132 3 1 (dk_at dksX0_count_5 15 rfl rfl)
theorem dX0_count_156 : decode cX0_count 156 = .ok (.goto (-31), 3) := dk_167 255 225 (dk_at dksX0_count_5 18 rfl rfl)
theorem dX0_count_159 : decode cX0_count 159 = .ok (.iload_n 2, 1) := dk_28 (dk_at dksX0_count_5 21 rfl rfl)
theorem dX0_count_160 : decode cX0_count 160 = .ok (.ireturn, 1) := dk_172 (dk_at dksX0_count_5 22 rfl rfl)
theorem dX0_count_161 : decode cX0_count 161 = .ok (.aload_n 0, 1) := dk_42 (dk_at dksX0_count_5 23 rfl rfl)
theorem dX0_count_162 : decode cX0_count 162 = .ok (.invokevirtual 547, 3) := dk_182 2 35 (dk_at dksX0_count_6 0 rfl rfl)
theorem dX0_count_165 : decode cX0_count 165 = .ok (.iconst 0, 1) := dk_3 (dk_at dksX0_count_6 3 rfl rfl)
theorem dX0_count_166 : decode cX0_count 166 = .ok (.istore_n 3, 1) := dk_62 (dk_at dksX0_count_6 4 rfl rfl)
theorem dX0_count_167 : decode cX0_count 167 = .ok (.iload_n 3, 1) := dk_29 (dk_at dksX0_count_6 5 rfl rfl)
theorem dX0_count_168 : decode cX0_count 168 = .ok (.aload_n 0, 1) := dk_42 (dk_at dksX0_count_6 6 rfl rfl)
theorem dX0_count_169 : decode cX0_count 169 = .ok (.getfield 479, 3) := dk_180 1 223 (dk_at dksX0_count_6 7 rfl rfl)
theorem dX0_count_172 : decode cX0_count 172 = .ok (.if_icmp .ge 29, 3) := dk_162 0 29 (dk_at dksX0_count_6 10 rfl rfl)
theorem dX0_count_175 : decode cX0_count 175 = .ok (.iload_n 2, 1) := dk_28 (dk_at dksX0_count_6 13 rfl rfl)
theorem dX0_count_176 : decode cX0_count 176 = .ok (.aload_n 0, 1) := dk_42 (dk_at dksX0_count_6 14 rfl rfl)
theorem dX0_count_177 : decode cX0_count 177 = .ok (.getfield 197, 3) := dk_180 0 197 (dk_at dksX0_count_6 15 rfl rfl)
theorem dX0_count_180 : decode cX0_count 180 = .ok (.iload_n 3, 1) := dk_29 (dk_at dksX0_count_6 18 rfl rfl)
theorem dX0_count_181 : decode cX0_count 181 = .ok (.aaload, 1) := dk_50 (dk_at dksX0_count_6 19 rfl rfl)
theorem dX0_count_182 : decode cX0_count 182 = .ok (.getfield 518, 3) := dk_180 2 6 (dk_at dksX0_count_6 20 rfl rfl)
theorem dX0_count_185 : decode cX0_count 185 = .ok (.ifCond .eq 7, 3) := dk_153 0 7 (dk_at dksX0_count_7 0 rfl rfl)
theorem dX0_count_188 : decode cX0_count 188 = .ok (.iconst 1, 1) := dk_4 (dk_at dksX0_count_7 3 rfl rfl)
theorem dX0_count_189 : decode cX0_count 189 = .ok (.goto 4, 3) := dk_167 0 4 (dk_at dksX0_count_7 4 rfl rfl)
theorem dX0_count_192 : decode cX0_count 192 = .ok (.iconst 0, 1) := dk_3 (dk_at dksX0_count_7 7 rfl rfl)
theorem dX0_count_193 : decode cX0_count 193 = .ok (.iadd, 1) := dk_96 (dk_at dksX0_count_7 8 rfl rfl)
theorem dX0_count_194 : decode cX0_count 194 = .ok (.istore_n 2, 1) := dk_61 (dk_at dksX0_count_7 9 rfl rfl)
theorem dX0_count_195 : decode cX0_count 195 = .ok (.iinc 3 1, 3) := dk_132 3 1 (dk_at dksX0_count_7 10 rfl rfl)
theorem dX0_count_198 : decode cX0_count 198 = .ok (.goto (-31), 3) := dk_167 255 225 (dk_at dksX0_count_7 13 rfl rfl)
theorem dX0_count_201 : decode cX0_count 201 = .ok (.iload_n 2, 1) := dk_28 (dk_at dksX0_count_7 16 rfl rfl)
theorem dX0_count_202 : decode cX0_count 202 = .ok (.ireturn, 1) := dk_172 (dk_at dksX0_count_7 17 rfl rfl)
theorem dX0_count_203 : decode cX0_count 203 = .ok (.aload_n 0, 1) := dk_42 (dk_at dksX0_count_7 18 rfl rfl)
theorem dX0_count_204 : decode cX0_count 204 = .ok (.getfield 338, 3) := dk_180 1 82 (dk_at dksX0_count_7 19 rfl rfl)
theorem dX0_count_207 : decode cX0_count 207 = .ok (.ireturn, 1) := dk_172 (dk_at dksX0_count_7 22 rfl rfl)
theorem dX0_count_208 : decode cX0_count 208 = .ok (.iconst (-1), 1) := dk_2 (dk_at dksX0_count_7 23 rfl rfl)
theorem dX0_count_209 : decode cX0_count 209 = .ok (.ireturn, 1) := dk_172 (dk_at dksX0_count_8 0 rfl rfl)
theorem q103 : (Jvm.Cond.initialized "ValleyGuides") ∈ lw_all := lw_g (lw_at lw_m1 1 rfl) rfl
theorem q152 : (Jvm.Cond.instanceMethod ({ cls := "ValleyGuides", name := "place", desc := "(I)I" } : Jvm.MethodName)) ∈ lw_all := lw_g (lw_at lw_m1 50 rfl) rfl
theorem q153 : (Jvm.Cond.selects "ValleyGuides" ({ cls := "ValleyGuides", name := "place", desc := "(I)I" } : Jvm.MethodName) ({ cls := "ValleyGuides", name := "place", desc := "(I)I" } : Jvm.MethodName)) ∈ lw_all := lw_g (lw_at lw_m1 51 rfl) rfl
theorem q154 : (Jvm.Cond.code ({ cls := "ValleyGuides", name := "place", desc := "(I)I" } : Jvm.MethodName) prog_1_method_7_code (2 : Nat) (Option.some Jvm.ClassFile.FieldType.int)) ∈ lw_all := lw_g (lw_at lw_m1 52 rfl) rfl
theorem q155 : (Jvm.Cond.constantLong "ValleyGuides" (21 : Nat) (9 : Int64)) ∈ lw_all := lw_g (lw_at lw_m1 53 rfl) rfl
theorem q156 : (Jvm.Cond.methodLink "ValleyGuides" (9 : Nat) ({ cls := "ValleyGuides", name := "isIn", desc := "(JJJ)Z" } : Jvm.MethodName)) ∈ lw_all := lw_g (lw_at lw_m1 54 rfl) rfl
theorem q157 : (Jvm.Cond.static ({ cls := "ValleyGuides", name := "isIn", desc := "(JJJ)Z" } : Jvm.MethodName)) ∈ lw_all := lw_g (lw_at lw_m1 55 rfl) rfl
theorem q158 : (Jvm.Cond.code ({ cls := "ValleyGuides", name := "isIn", desc := "(JJJ)Z" } : Jvm.MethodName) prog_1_method_1_code (6 : Nat) (Option.some Jvm.ClassFile.FieldType.boolean)) ∈ lw_all := lw_g (lw_at lw_m1 56 rfl) rfl
theorem q160 : (Jvm.Cond.instanceMethod ({ cls := "ValleyGuides", name := "step", desc := "(IIIIIZ)I" } : Jvm.MethodName)) ∈ lw_all := lw_g (lw_at lw_m1 58 rfl) rfl
theorem q161 : (Jvm.Cond.selects "ValleyGuides" ({ cls := "ValleyGuides", name := "step", desc := "(IIIIIZ)I" } : Jvm.MethodName) ({ cls := "ValleyGuides", name := "step", desc := "(IIIIIZ)I" } : Jvm.MethodName)) ∈ lw_all := lw_g (lw_at lw_m1 59 rfl) rfl
theorem q162 : (Jvm.Cond.code ({ cls := "ValleyGuides", name := "step", desc := "(IIIIIZ)I" } : Jvm.MethodName) prog_1_method_9_code (7 : Nat) (Option.some Jvm.ClassFile.FieldType.int)) ∈ lw_all := lw_g (lw_at lw_m1 60 rfl) rfl
theorem q163 : (Jvm.Cond.methodLink "ValleyGuides" (45 : Nat) ({ cls := "ValleyGuides", name := "isPlace", desc := "(I)Z" } : Jvm.MethodName)) ∈ lw_all := lw_g (lw_at lw_m1 61 rfl) rfl
theorem q164 : (Jvm.Cond.privateMethod ({ cls := "ValleyGuides", name := "isPlace", desc := "(I)Z" } : Jvm.MethodName)) ∈ lw_tbl := lw_at lw_m1 62 rfl
theorem q165 : (Jvm.Cond.instanceMethod ({ cls := "ValleyGuides", name := "isPlace", desc := "(I)Z" } : Jvm.MethodName)) ∈ lw_all := lw_g (lw_at lw_m1 63 rfl) rfl
theorem q166 : (Jvm.Cond.instantiable "ValleyGuides" (42 : Nat)) ∈ lw_all := lw_g (lw_at lw_m1 64 rfl) rfl
theorem q167 : (Jvm.Cond.code ({ cls := "ValleyGuides", name := "isPlace", desc := "(I)Z" } : Jvm.MethodName) prog_1_method_2_code (2 : Nat) (Option.some Jvm.ClassFile.FieldType.boolean)) ∈ lw_all := lw_g (lw_at lw_m1 65 rfl) rfl
theorem q168 : (Jvm.Cond.constantLong "ValleyGuides" (49 : Nat) (4 : Int64)) ∈ lw_all := lw_g (lw_at lw_m1 66 rfl) rfl
theorem q169 : (Jvm.Cond.constantLong "ValleyGuides" (51 : Nat) (5 : Int64)) ∈ lw_all := lw_g (lw_at lw_m1 67 rfl) rfl
theorem q170 : (Jvm.Cond.methodLink "ValleyGuides" (57 : Nat) ({ cls := "ValleyGuides", name := "made", desc := "(IIIIIZ)LValleyGuides$Step;" } : Jvm.MethodName)) ∈ lw_all := lw_g (lw_at lw_m1 68 rfl) rfl
theorem q171 : (Jvm.Cond.static ({ cls := "ValleyGuides", name := "made", desc := "(IIIIIZ)LValleyGuides$Step;" } : Jvm.MethodName)) ∈ lw_all := lw_g (lw_at lw_m1 69 rfl) rfl
theorem q172 : (Jvm.Cond.code ({ cls := "ValleyGuides", name := "made", desc := "(IIIIIZ)LValleyGuides$Step;" } : Jvm.MethodName) prog_1_method_8_code (6 : Nat) (Option.some (Jvm.ClassFile.FieldType.object "ValleyGuides$Step"))) ∈ lw_all := lw_g (lw_at lw_m1 70 rfl) rfl
theorem q173 : (Jvm.Cond.classLink "ValleyGuides" (27 : Nat) "ValleyGuides$Path") ∈ lw_all := lw_g (lw_at lw_m1 71 rfl) rfl
theorem q175 : (Jvm.Cond.methodLink "ValleyGuides" (29 : Nat) ({ cls := "ValleyGuides$Path", name := "<init>", desc := "(IIIIZ)V" } : Jvm.MethodName)) ∈ lw_all := lw_g (lw_at lw_m1 73 rfl) rfl
theorem q186 : (Jvm.Cond.fieldLink "ValleyGuides" (64 : Nat) "ValleyGuides$Step" "from" "I") ∈ lw_all := lw_g (lw_at lw_m1 84 rfl) rfl
theorem q189 : (Jvm.Cond.fieldLink "ValleyGuides" (69 : Nat) "ValleyGuides$Step" "to" "I") ∈ lw_all := lw_g (lw_at lw_m1 87 rfl) rfl
theorem q194 : (Jvm.Cond.fieldLink "ValleyGuides" (76 : Nat) "ValleyGuides$Step" "length" "I") ∈ lw_all := lw_g (lw_at lw_m1 92 rfl) rfl
theorem q203 : (Jvm.Cond.fieldLink "ValleyGuides" (79 : Nat) "ValleyGuides$Step" "hard" "I") ∈ lw_all := lw_g (lw_at lw_m1 101 rfl) rfl
theorem q205 : (Jvm.Cond.fieldLink "ValleyGuides" (82 : Nat) "ValleyGuides$Step" "isNarrow" "Z") ∈ lw_all := lw_g (lw_at lw_m1 103 rfl) rfl
theorem q217 : (Jvm.Cond.classLink "ValleyGuides" (33 : Nat) "ValleyGuides$Ice") ∈ lw_all := lw_g (lw_at lw_m1 115 rfl) rfl
theorem q219 : (Jvm.Cond.methodLink "ValleyGuides" (35 : Nat) ({ cls := "ValleyGuides$Ice", name := "<init>", desc := "(IIIIZ)V" } : Jvm.MethodName)) ∈ lw_all := lw_g (lw_at lw_m1 117 rfl) rfl
theorem q229 : (Jvm.Cond.classLink "ValleyGuides" (36 : Nat) "ValleyGuides$Rock") ∈ lw_all := lw_g (lw_at lw_m1 127 rfl) rfl
theorem q231 : (Jvm.Cond.methodLink "ValleyGuides" (38 : Nat) ({ cls := "ValleyGuides$Rock", name := "<init>", desc := "(IIIIZ)V" } : Jvm.MethodName)) ∈ lw_all := lw_g (lw_at lw_m1 129 rfl) rfl
theorem q241 : (Jvm.Cond.classLink "ValleyGuides" (39 : Nat) "ValleyGuides$Snow") ∈ lw_all := lw_g (lw_at lw_m1 139 rfl) rfl
theorem q243 : (Jvm.Cond.methodLink "ValleyGuides" (41 : Nat) ({ cls := "ValleyGuides$Snow", name := "<init>", desc := "(IIIIZ)V" } : Jvm.MethodName)) ∈ lw_all := lw_g (lw_at lw_m1 141 rfl) rfl
theorem q253 : (Jvm.Cond.classLink "ValleyGuides" (42 : Nat) "ValleyGuides$Ridge") ∈ lw_all := lw_g (lw_at lw_m1 151 rfl) rfl
theorem q255 : (Jvm.Cond.methodLink "ValleyGuides" (44 : Nat) ({ cls := "ValleyGuides$Ridge", name := "<init>", desc := "(IIIIZ)V" } : Jvm.MethodName)) ∈ lw_all := lw_g (lw_at lw_m1 153 rfl) rfl
theorem q266 : (Jvm.Cond.instanceMethod ({ cls := "ValleyGuides", name := "stepOf", desc := "(II)I" } : Jvm.MethodName)) ∈ lw_all := lw_g (lw_at lw_m1 164 rfl) rfl
theorem q267 : (Jvm.Cond.selects "ValleyGuides" ({ cls := "ValleyGuides", name := "stepOf", desc := "(II)I" } : Jvm.MethodName) ({ cls := "ValleyGuides", name := "stepOf", desc := "(II)I" } : Jvm.MethodName)) ∈ lw_all := lw_g (lw_at lw_m1 165 rfl) rfl
theorem q268 : (Jvm.Cond.code ({ cls := "ValleyGuides", name := "stepOf", desc := "(II)I" } : Jvm.MethodName) prog_1_method_10_code (4 : Nat) (Option.some Jvm.ClassFile.FieldType.int)) ∈ lw_all := lw_g (lw_at lw_m1 166 rfl) rfl
theorem q269 : (Jvm.Cond.methodLink "ValleyGuides" (61 : Nat) ({ cls := "ValleyGuides", name := "isStep", desc := "(I)Z" } : Jvm.MethodName)) ∈ lw_all := lw_g (lw_at lw_m1 167 rfl) rfl
theorem q270 : (Jvm.Cond.privateMethod ({ cls := "ValleyGuides", name := "isStep", desc := "(I)Z" } : Jvm.MethodName)) ∈ lw_tbl := lw_at lw_m1 168 rfl
theorem q271 : (Jvm.Cond.instanceMethod ({ cls := "ValleyGuides", name := "isStep", desc := "(I)Z" } : Jvm.MethodName)) ∈ lw_all := lw_g (lw_at lw_m1 169 rfl) rfl
theorem q272 : (Jvm.Cond.code ({ cls := "ValleyGuides", name := "isStep", desc := "(I)Z" } : Jvm.MethodName) prog_1_method_3_code (2 : Nat) (Option.some Jvm.ClassFile.FieldType.boolean)) ∈ lw_all := lw_g (lw_at lw_m1 170 rfl) rfl
theorem q273 : (Jvm.Cond.methodLink "ValleyGuides" (72 : Nat) ({ cls := "ValleyGuides$Step", name := "sort", desc := "()I" } : Jvm.MethodName)) ∈ lw_all := lw_g (lw_at lw_m1 171 rfl) rfl
theorem q296 : (Jvm.Cond.instanceMethod ({ cls := "ValleyGuides", name := "route", desc := "(I)I" } : Jvm.MethodName)) ∈ lw_all := lw_g (lw_at lw_m1 194 rfl) rfl
theorem q297 : (Jvm.Cond.selects "ValleyGuides" ({ cls := "ValleyGuides", name := "route", desc := "(I)I" } : Jvm.MethodName) ({ cls := "ValleyGuides", name := "route", desc := "(I)I" } : Jvm.MethodName)) ∈ lw_all := lw_g (lw_at lw_m1 195 rfl) rfl
theorem q298 : (Jvm.Cond.code ({ cls := "ValleyGuides", name := "route", desc := "(I)I" } : Jvm.MethodName) prog_1_method_11_code (2 : Nat) (Option.some Jvm.ClassFile.FieldType.int)) ∈ lw_all := lw_g (lw_at lw_m1 196 rfl) rfl
theorem q299 : (Jvm.Cond.classLink "ValleyGuides" (90 : Nat) "ValleyGuides$Route") ∈ lw_all := lw_g (lw_at lw_m1 197 rfl) rfl
theorem q301 : (Jvm.Cond.methodLinkNest "ValleyGuides" (92 : Nat) ({ cls := "ValleyGuides$Route", name := "<init>", desc := "()V" } : Jvm.MethodName) "ValleyGuides") ∈ lw_tbl := lw_at lw_m1 199 rfl
theorem q332 : (Jvm.Cond.fieldLinkNest "ValleyGuides" (95 : Nat) "ValleyGuides$Route" "steps" "Ljava/util/List;" "ValleyGuides") ∈ lw_tbl := lw_at lw_m1 230 rfl
theorem q336 : (Jvm.Cond.interfaceEntry "ValleyGuides" (98 : Nat)) ∈ lw_tbl := lw_at lw_m1 234 rfl
theorem q337 : (Jvm.Cond.methodLink "ValleyGuides" (98 : Nat) ({ cls := "java/util/List", name := "add", desc := "(Ljava/lang/Object;)Z" } : Jvm.MethodName)) ∈ lw_all := lw_g (lw_at lw_m1 235 rfl) rfl
theorem q374 : (Jvm.Cond.selects "ValleyGuides" ({ cls := "java/lang/Object", name := "getClass", desc := "()Ljava/lang/Class;" } : Jvm.MethodName) ({ cls := "java/lang/Object", name := "getClass", desc := "()Ljava/lang/Class;" } : Jvm.MethodName)) ∈ lw_all := lw_g (lw_at lw_m2 32 rfl) rfl
theorem q417 : (Jvm.Cond.instanceMethod ({ cls := "ValleyGuides", name := "on", desc := "(II)I" } : Jvm.MethodName)) ∈ lw_all := lw_g (lw_at lw_m2 75 rfl) rfl
theorem q418 : (Jvm.Cond.selects "ValleyGuides" ({ cls := "ValleyGuides", name := "on", desc := "(II)I" } : Jvm.MethodName) ({ cls := "ValleyGuides", name := "on", desc := "(II)I" } : Jvm.MethodName)) ∈ lw_all := lw_g (lw_at lw_m2 76 rfl) rfl
theorem q419 : (Jvm.Cond.code ({ cls := "ValleyGuides", name := "on", desc := "(II)I" } : Jvm.MethodName) prog_1_method_12_code (4 : Nat) (Option.some Jvm.ClassFile.FieldType.int)) ∈ lw_all := lw_g (lw_at lw_m2 77 rfl) rfl
theorem q420 : (Jvm.Cond.methodLink "ValleyGuides" (104 : Nat) ({ cls := "ValleyGuides", name := "isRoute", desc := "(I)Z" } : Jvm.MethodName)) ∈ lw_all := lw_g (lw_at lw_m2 78 rfl) rfl
theorem q421 : (Jvm.Cond.privateMethod ({ cls := "ValleyGuides", name := "isRoute", desc := "(I)Z" } : Jvm.MethodName)) ∈ lw_tbl := lw_at lw_m2 79 rfl
theorem q422 : (Jvm.Cond.instanceMethod ({ cls := "ValleyGuides", name := "isRoute", desc := "(I)Z" } : Jvm.MethodName)) ∈ lw_all := lw_g (lw_at lw_m2 80 rfl) rfl
theorem q423 : (Jvm.Cond.code ({ cls := "ValleyGuides", name := "isRoute", desc := "(I)Z" } : Jvm.MethodName) prog_1_method_4_code (2 : Nat) (Option.some Jvm.ClassFile.FieldType.boolean)) ∈ lw_all := lw_g (lw_at lw_m2 81 rfl) rfl
theorem q424 : (Jvm.Cond.methodLink "ValleyGuides" (107 : Nat) ({ cls := "ValleyGuides$Route", name := "ends", desc := "()I" } : Jvm.MethodName)) ∈ lw_all := lw_g (lw_at lw_m2 82 rfl) rfl
theorem q457 : (Jvm.Cond.interfaceEntry "ValleyGuides" (110 : Nat)) ∈ lw_tbl := lw_at lw_m2 115 rfl
theorem q458 : (Jvm.Cond.methodLink "ValleyGuides" (110 : Nat) ({ cls := "java/util/List", name := "size", desc := "()I" } : Jvm.MethodName)) ∈ lw_all := lw_g (lw_at lw_m2 116 rfl) rfl
theorem q460 : (Jvm.Cond.instanceMethod ({ cls := "ValleyGuides", name := "routeOf", desc := "(II)I" } : Jvm.MethodName)) ∈ lw_all := lw_g (lw_at lw_m2 118 rfl) rfl
theorem q461 : (Jvm.Cond.selects "ValleyGuides" ({ cls := "ValleyGuides", name := "routeOf", desc := "(II)I" } : Jvm.MethodName) ({ cls := "ValleyGuides", name := "routeOf", desc := "(II)I" } : Jvm.MethodName)) ∈ lw_all := lw_g (lw_at lw_m2 119 rfl) rfl
theorem q462 : (Jvm.Cond.code ({ cls := "ValleyGuides", name := "routeOf", desc := "(II)I" } : Jvm.MethodName) prog_1_method_14_code (4 : Nat) (Option.some Jvm.ClassFile.FieldType.int)) ∈ lw_all := lw_g (lw_at lw_m2 120 rfl) rfl
theorem q463 : (Jvm.Cond.methodLink "ValleyGuides" (113 : Nat) ({ cls := "ValleyGuides$Route", name := "begins", desc := "()I" } : Jvm.MethodName)) ∈ lw_all := lw_g (lw_at lw_m2 121 rfl) rfl
theorem q467 : (Jvm.Cond.methodLink "ValleyGuides" (116 : Nat) ({ cls := "ValleyGuides$Route", name := "hardest", desc := "()I" } : Jvm.MethodName)) ∈ lw_all := lw_g (lw_at lw_m2 125 rfl) rfl
theorem q472 : (Jvm.Cond.methodLink "ValleyGuides" (119 : Nat) ({ cls := "ValleyGuides$Route", name := "hard", desc := "()I" } : Jvm.MethodName)) ∈ lw_all := lw_g (lw_at lw_m2 130 rfl) rfl
theorem q476 : (Jvm.Cond.methodLink "ValleyGuides" (121 : Nat) ({ cls := "ValleyGuides$Route", name := "length", desc := "()I" } : Jvm.MethodName)) ∈ lw_all := lw_g (lw_at lw_m2 134 rfl) rfl
theorem q480 : (Jvm.Cond.constantLong "ValleyGuides" (123 : Nat) (10 : Int64)) ∈ lw_all := lw_g (lw_at lw_m2 138 rfl) rfl
theorem q481 : (Jvm.Cond.interfaceEntry "ValleyGuides" (125 : Nat)) ∈ lw_tbl := lw_at lw_m2 139 rfl
theorem q482 : (Jvm.Cond.methodLink "ValleyGuides" (125 : Nat) ({ cls := "java/util/List", name := "get", desc := "(I)Ljava/lang/Object;" } : Jvm.MethodName)) ∈ lw_all := lw_g (lw_at lw_m2 140 rfl) rfl
theorem q483 : (Jvm.Cond.classLink "ValleyGuides" (65 : Nat) "ValleyGuides$Step") ∈ lw_all := lw_g (lw_at lw_m2 141 rfl) rfl
theorem q484 : (Jvm.Cond.methodLink "ValleyGuides" (129 : Nat) ({ cls := "ValleyGuides", name := "numberOf", desc := "(LValleyGuides$Step;)I" } : Jvm.MethodName)) ∈ lw_all := lw_g (lw_at lw_m2 142 rfl) rfl
theorem q485 : (Jvm.Cond.privateMethod ({ cls := "ValleyGuides", name := "numberOf", desc := "(LValleyGuides$Step;)I" } : Jvm.MethodName)) ∈ lw_tbl := lw_at lw_m2 143 rfl
theorem q486 : (Jvm.Cond.instanceMethod ({ cls := "ValleyGuides", name := "numberOf", desc := "(LValleyGuides$Step;)I" } : Jvm.MethodName)) ∈ lw_all := lw_g (lw_at lw_m2 144 rfl) rfl
theorem q487 : (Jvm.Cond.code ({ cls := "ValleyGuides", name := "numberOf", desc := "(LValleyGuides$Step;)I" } : Jvm.MethodName) prog_1_method_13_code (3 : Nat) (Option.some Jvm.ClassFile.FieldType.int)) ∈ lw_all := lw_g (lw_at lw_m2 145 rfl) rfl
theorem q490 : (Jvm.Cond.instanceMethod ({ cls := "ValleyGuides", name := "<init>", desc := "()V" } : Jvm.MethodName)) ∈ lw_all := lw_g (lw_at lw_m2 148 rfl) rfl
theorem q491 : (Jvm.Cond.code ({ cls := "ValleyGuides", name := "<init>", desc := "()V" } : Jvm.MethodName) prog_1_method_15_code (1 : Nat) (Option.none : Option Jvm.ClassFile.FieldType)) ∈ lw_all := lw_g (lw_at lw_m2 149 rfl) rfl
theorem q492 : (Jvm.Cond.methodLink "ValleyGuides" (133 : Nat) ({ cls := "java/lang/Object", name := "<init>", desc := "()V" } : Jvm.MethodName)) ∈ lw_all := lw_g (lw_at lw_m2 150 rfl) rfl
theorem q495 : (Jvm.Cond.classLink "ValleyGuides" (136 : Nat) "ValleyGuides$Sheet") ∈ lw_all := lw_g (lw_at lw_m2 153 rfl) rfl
theorem q498 : (Jvm.Cond.methodLinkNest "ValleyGuides" (138 : Nat) ({ cls := "ValleyGuides$Sheet", name := "<init>", desc := "()V" } : Jvm.MethodName) "ValleyGuides") ∈ lw_tbl := lw_at lw_m2 156 rfl
theorem q502 : (Jvm.Cond.fieldLinkNest "ValleyGuides" (246 : Nat) "ValleyGuides$Sheet" "row" "Ljava/lang/Object;" "ValleyGuides") ∈ lw_tbl := lw_at lw_m2 160 rfl
theorem q507 : (Jvm.Cond.classLink "ValleyGuides" (143 : Nat) "[[I") ∈ lw_all := lw_g (lw_at lw_m2 165 rfl) rfl
theorem q509 : (Jvm.Cond.classLink "ValleyGuides" (165 : Nat) "java/util/ArrayList") ∈ lw_all := lw_g (lw_at lw_m2 167 rfl) rfl
theorem q510 : (Jvm.Cond.methodLink "ValleyGuides" (167 : Nat) ({ cls := "java/util/ArrayList", name := "<init>", desc := "()V" } : Jvm.MethodName)) ∈ lw_all := lw_g (lw_at lw_m2 168 rfl) rfl
theorem q511 : (Jvm.Cond.classLink "ValleyGuides" (174 : Nat) "ValleyGuides$Guide") ∈ lw_all := lw_g (lw_at lw_m2 169 rfl) rfl
theorem q513 : (Jvm.Cond.classLink "ValleyGuides" (195 : Nat) "ValleyGuides$Rope") ∈ lw_all := lw_g (lw_at lw_m2 171 rfl) rfl
theorem q515 : (Jvm.Cond.classLink "ValleyGuides" (225 : Nat) "[J") ∈ lw_all := lw_g (lw_at lw_m2 173 rfl) rfl
theorem q517 : (Jvm.Cond.classLink "ValleyGuides" (231 : Nat) "ValleyGuides$Image") ∈ lw_all := lw_g (lw_at lw_m2 175 rfl) rfl
theorem q519 : (Jvm.Cond.methodLinkNest "ValleyGuides" (233 : Nat) ({ cls := "ValleyGuides$Image", name := "<init>", desc := "()V" } : Jvm.MethodName) "ValleyGuides") ∈ lw_tbl := lw_at lw_m2 177 rfl
theorem q524 : (Jvm.Cond.fieldLinkNest "ValleyGuides" (592 : Nat) "ValleyGuides$Image" "order" "[I" "ValleyGuides") ∈ lw_tbl := lw_at lw_m2 182 rfl
theorem q526 : (Jvm.Cond.fieldLinkNest "ValleyGuides" (595 : Nat) "ValleyGuides$Image" "isOut" "[Z" "ValleyGuides") ∈ lw_tbl := lw_at lw_m2 184 rfl
theorem q528 : (Jvm.Cond.fieldLinkNest "ValleyGuides" (597 : Nat) "ValleyGuides$Image" "had" "[I" "ValleyGuides") ∈ lw_tbl := lw_at lw_m2 186 rfl
theorem q530 : (Jvm.Cond.fieldLinkNest "ValleyGuides" (599 : Nat) "ValleyGuides$Image" "given" "[I" "ValleyGuides") ∈ lw_tbl := lw_at lw_m2 188 rfl
theorem q531 : (Jvm.Cond.fieldLinkNest "ValleyGuides" (587 : Nat) "ValleyGuides$Image" "many" "I" "ValleyGuides") ∈ lw_tbl := lw_at lw_m2 189 rfl
theorem q532 : (Jvm.Cond.fieldLinkNest "ValleyGuides" (590 : Nat) "ValleyGuides$Image" "day" "I" "ValleyGuides") ∈ lw_tbl := lw_at lw_m2 190 rfl
theorem q533 : (Jvm.Cond.fieldLinkNest "ValleyGuides" (591 : Nat) "ValleyGuides$Image" "purse" "I" "ValleyGuides") ∈ lw_tbl := lw_at lw_m2 191 rfl
theorem q551 : (Jvm.Cond.fieldLink "ValleyGuides" (23 : Nat) "ValleyGuides" "beds" "[I") ∈ lw_all := lw_g (lw_at lw_m2 209 rfl) rfl
theorem q552 : (Jvm.Cond.fieldLink "ValleyGuides" (5 : Nat) "ValleyGuides" "placeMany" "I") ∈ lw_all := lw_g (lw_at lw_m2 210 rfl) rfl
theorem q553 : (Jvm.Cond.fieldLink "ValleyGuides" (53 : Nat) "ValleyGuides" "steps" "[LValleyGuides$Step;") ∈ lw_all := lw_g (lw_at lw_m2 211 rfl) rfl
theorem q554 : (Jvm.Cond.fieldLink "ValleyGuides" (13 : Nat) "ValleyGuides" "stepMany" "I") ∈ lw_all := lw_g (lw_at lw_m2 212 rfl) rfl
theorem q555 : (Jvm.Cond.fieldLink "ValleyGuides" (86 : Nat) "ValleyGuides" "routes" "[LValleyGuides$Route;") ∈ lw_all := lw_g (lw_at lw_m2 213 rfl) rfl
theorem q556 : (Jvm.Cond.fieldLink "ValleyGuides" (16 : Nat) "ValleyGuides" "routeMany" "I") ∈ lw_all := lw_g (lw_at lw_m2 214 rfl) rfl
theorem q557 : (Jvm.Cond.fieldLink "ValleyGuides" (139 : Nat) "ValleyGuides" "sheets" "[LValleyGuides$Sheet;") ∈ lw_all := lw_g (lw_at lw_m2 215 rfl) rfl
theorem q558 : (Jvm.Cond.fieldLink "ValleyGuides" (145 : Nat) "ValleyGuides" "skies" "[[I") ∈ lw_all := lw_g (lw_at lw_m2 216 rfl) rfl
theorem q559 : (Jvm.Cond.fieldLink "ValleyGuides" (148 : Nat) "ValleyGuides" "blindFrom" "[I") ∈ lw_all := lw_g (lw_at lw_m2 217 rfl) rfl
theorem q560 : (Jvm.Cond.fieldLink "ValleyGuides" (151 : Nat) "ValleyGuides" "faults" "[I") ∈ lw_all := lw_g (lw_at lw_m2 218 rfl) rfl
theorem q561 : (Jvm.Cond.fieldLink "ValleyGuides" (154 : Nat) "ValleyGuides" "comes" "[I") ∈ lw_all := lw_g (lw_at lw_m2 219 rfl) rfl
theorem q562 : (Jvm.Cond.fieldLink "ValleyGuides" (157 : Nat) "ValleyGuides" "isLeft" "[Z") ∈ lw_all := lw_g (lw_at lw_m2 220 rfl) rfl
theorem q563 : (Jvm.Cond.fieldLink "ValleyGuides" (161 : Nat) "ValleyGuides" "tape" "[B") ∈ lw_all := lw_g (lw_at lw_m2 221 rfl) rfl
theorem q564 : (Jvm.Cond.fieldLink "ValleyGuides" (338 : Nat) "ValleyGuides" "taped" "I") ∈ lw_all := lw_g (lw_at lw_m2 222 rfl) rfl
theorem q565 : (Jvm.Cond.fieldLink "ValleyGuides" (356 : Nat) "ValleyGuides" "fault" "I") ∈ lw_all := lw_g (lw_at lw_m2 223 rfl) rfl
theorem q566 : (Jvm.Cond.fieldLink "ValleyGuides" (168 : Nat) "ValleyGuides" "lines" "Ljava/util/List;") ∈ lw_all := lw_g (lw_at lw_m2 224 rfl) rfl
theorem q567 : (Jvm.Cond.fieldLink "ValleyGuides" (367 : Nat) "ValleyGuides" "day" "I") ∈ lw_all := lw_g (lw_at lw_m2 225 rfl) rfl
theorem q568 : (Jvm.Cond.fieldLink "ValleyGuides" (171 : Nat) "ValleyGuides" "vars" "[I") ∈ lw_all := lw_g (lw_at lw_m2 226 rfl) rfl
theorem q569 : (Jvm.Cond.fieldLink "ValleyGuides" (176 : Nat) "ValleyGuides" "guides" "[LValleyGuides$Guide;") ∈ lw_all := lw_g (lw_at lw_m2 227 rfl) rfl
theorem q570 : (Jvm.Cond.fieldLink "ValleyGuides" (405 : Nat) "ValleyGuides" "guideMany" "I") ∈ lw_all := lw_g (lw_at lw_m2 228 rfl) rfl
theorem q571 : (Jvm.Cond.fieldLink "ValleyGuides" (180 : Nat) "ValleyGuides" "list" "Ljava/util/List;") ∈ lw_all := lw_g (lw_at lw_m2 229 rfl) rfl
theorem q572 : (Jvm.Cond.fieldLink "ValleyGuides" (444 : Nat) "ValleyGuides" "purse" "I") ∈ lw_all := lw_g (lw_at lw_m2 230 rfl) rfl
theorem q573 : (Jvm.Cond.fieldLink "ValleyGuides" (183 : Nat) "ValleyGuides" "going" "[LValleyGuides$Guide;") ∈ lw_all := lw_g (lw_at lw_m2 231 rfl) rfl
theorem q574 : (Jvm.Cond.fieldLink "ValleyGuides" (186 : Nat) "ValleyGuides" "strengths" "[I") ∈ lw_all := lw_g (lw_at lw_m2 232 rfl) rfl
theorem q575 : (Jvm.Cond.fieldLink "ValleyGuides" (189 : Nat) "ValleyGuides" "wishes" "[[I") ∈ lw_all := lw_g (lw_at lw_m2 233 rfl) rfl
theorem q576 : (Jvm.Cond.fieldLink "ValleyGuides" (450 : Nat) "ValleyGuides" "people" "I") ∈ lw_all := lw_g (lw_at lw_m2 234 rfl) rfl
theorem q577 : (Jvm.Cond.fieldLink "ValleyGuides" (192 : Nat) "ValleyGuides" "best" "[I") ∈ lw_all := lw_g (lw_at lw_m2 235 rfl) rfl
theorem q578 : (Jvm.Cond.fieldLink "ValleyGuides" (197 : Nat) "ValleyGuides" "ropes" "[LValleyGuides$Rope;") ∈ lw_all := lw_g (lw_at lw_m2 236 rfl) rfl
theorem q579 : (Jvm.Cond.fieldLink "ValleyGuides" (479 : Nat) "ValleyGuides" "ropeMany" "I") ∈ lw_all := lw_g (lw_at lw_m2 237 rfl) rfl
theorem q580 : (Jvm.Cond.fieldLink "ValleyGuides" (201 : Nat) "ValleyGuides" "bedsTaken" "[I") ∈ lw_all := lw_g (lw_at lw_m2 238 rfl) rfl
theorem q581 : (Jvm.Cond.fieldLink "ValleyGuides" (204 : Nat) "ValleyGuides" "lain" "[I") ∈ lw_all := lw_g (lw_at lw_m2 239 rfl) rfl
theorem q582 : (Jvm.Cond.fieldLink "ValleyGuides" (207 : Nat) "ValleyGuides" "visits" "[I") ∈ lw_all := lw_g (lw_at lw_m3 0 rfl) rfl
theorem q583 : (Jvm.Cond.fieldLink "ValleyGuides" (210 : Nat) "ValleyGuides" "entryRoute" "[I") ∈ lw_all := lw_g (lw_at lw_m3 1 rfl) rfl
theorem q584 : (Jvm.Cond.fieldLink "ValleyGuides" (213 : Nat) "ValleyGuides" "entryGuide" "[I") ∈ lw_all := lw_g (lw_at lw_m3 2 rfl) rfl
theorem q585 : (Jvm.Cond.fieldLink "ValleyGuides" (216 : Nat) "ValleyGuides" "entryHours" "[I") ∈ lw_all := lw_g (lw_at lw_m3 3 rfl) rfl
theorem q586 : (Jvm.Cond.fieldLink "ValleyGuides" (552 : Nat) "ValleyGuides" "entryMany" "I") ∈ lw_all := lw_g (lw_at lw_m3 4 rfl) rfl
theorem q587 : (Jvm.Cond.fieldLink "ValleyGuides" (219 : Nat) "ValleyGuides" "piece" "[I") ∈ lw_all := lw_g (lw_at lw_m3 5 rfl) rfl
theorem q588 : (Jvm.Cond.fieldLink "ValleyGuides" (222 : Nat) "ValleyGuides" "rowOf" "[I") ∈ lw_all := lw_g (lw_at lw_m3 6 rfl) rfl
theorem q589 : (Jvm.Cond.fieldLink "ValleyGuides" (227 : Nat) "ValleyGuides" "table" "[[J") ∈ lw_all := lw_g (lw_at lw_m3 7 rfl) rfl
theorem q590 : (Jvm.Cond.fieldLink "ValleyGuides" (559 : Nat) "ValleyGuides" "whole" "J") ∈ lw_all := lw_g (lw_at lw_m3 8 rfl) rfl
theorem q591 : (Jvm.Cond.fieldLink "ValleyGuides" (234 : Nat) "ValleyGuides" "kept" "LValleyGuides$Image;") ∈ lw_all := lw_g (lw_at lw_m3 9 rfl) rfl
theorem q592 : (Jvm.Cond.fieldLink "ValleyGuides" (584 : Nat) "ValleyGuides" "isKept" "Z") ∈ lw_all := lw_g (lw_at lw_m3 10 rfl) rfl
theorem q593 : (Jvm.Cond.laysFinal "ValleyGuides" "ValleyGuides" "beds" "[I") ∈ lw_all := lw_g (lw_at lw_m3 11 rfl) rfl
theorem q594 : (Jvm.Cond.soleField "ValleyGuides" "beds") ∈ lw_all := lw_g (lw_at lw_m3 12 rfl) rfl
theorem q595 : (Jvm.Cond.lays "ValleyGuides" "ValleyGuides" "placeMany" "I") ∈ lw_all := lw_g (lw_at lw_m3 13 rfl) rfl
theorem q596 : (Jvm.Cond.soleField "ValleyGuides" "placeMany") ∈ lw_all := lw_g (lw_at lw_m3 14 rfl) rfl
theorem q597 : (Jvm.Cond.laysFinal "ValleyGuides" "ValleyGuides" "steps" "[LValleyGuides$Step;") ∈ lw_all := lw_g (lw_at lw_m3 15 rfl) rfl
theorem q598 : (Jvm.Cond.soleField "ValleyGuides" "steps") ∈ lw_all := lw_g (lw_at lw_m3 16 rfl) rfl
theorem q599 : (Jvm.Cond.lays "ValleyGuides" "ValleyGuides" "stepMany" "I") ∈ lw_all := lw_g (lw_at lw_m3 17 rfl) rfl
theorem q600 : (Jvm.Cond.soleField "ValleyGuides" "stepMany") ∈ lw_all := lw_g (lw_at lw_m3 18 rfl) rfl
theorem q601 : (Jvm.Cond.laysFinal "ValleyGuides" "ValleyGuides" "routes" "[LValleyGuides$Route;") ∈ lw_all := lw_g (lw_at lw_m3 19 rfl) rfl
theorem q602 : (Jvm.Cond.soleField "ValleyGuides" "routes") ∈ lw_all := lw_g (lw_at lw_m3 20 rfl) rfl
theorem q603 : (Jvm.Cond.lays "ValleyGuides" "ValleyGuides" "routeMany" "I") ∈ lw_all := lw_g (lw_at lw_m3 21 rfl) rfl
theorem q604 : (Jvm.Cond.soleField "ValleyGuides" "routeMany") ∈ lw_all := lw_g (lw_at lw_m3 22 rfl) rfl
theorem q605 : (Jvm.Cond.laysFinal "ValleyGuides" "ValleyGuides" "sheets" "[LValleyGuides$Sheet;") ∈ lw_all := lw_g (lw_at lw_m3 23 rfl) rfl
theorem q606 : (Jvm.Cond.soleField "ValleyGuides" "sheets") ∈ lw_all := lw_g (lw_at lw_m3 24 rfl) rfl
theorem q607 : (Jvm.Cond.laysFinal "ValleyGuides" "ValleyGuides" "skies" "[[I") ∈ lw_all := lw_g (lw_at lw_m3 25 rfl) rfl
theorem q608 : (Jvm.Cond.soleField "ValleyGuides" "skies") ∈ lw_all := lw_g (lw_at lw_m3 26 rfl) rfl
theorem q609 : (Jvm.Cond.laysFinal "ValleyGuides" "ValleyGuides" "blindFrom" "[I") ∈ lw_all := lw_g (lw_at lw_m3 27 rfl) rfl
theorem q610 : (Jvm.Cond.soleField "ValleyGuides" "blindFrom") ∈ lw_all := lw_g (lw_at lw_m3 28 rfl) rfl
theorem q611 : (Jvm.Cond.laysFinal "ValleyGuides" "ValleyGuides" "faults" "[I") ∈ lw_all := lw_g (lw_at lw_m3 29 rfl) rfl
theorem q612 : (Jvm.Cond.soleField "ValleyGuides" "faults") ∈ lw_all := lw_g (lw_at lw_m3 30 rfl) rfl
theorem q613 : (Jvm.Cond.laysFinal "ValleyGuides" "ValleyGuides" "comes" "[I") ∈ lw_all := lw_g (lw_at lw_m3 31 rfl) rfl
theorem q614 : (Jvm.Cond.soleField "ValleyGuides" "comes") ∈ lw_all := lw_g (lw_at lw_m3 32 rfl) rfl
theorem q615 : (Jvm.Cond.laysFinal "ValleyGuides" "ValleyGuides" "isLeft" "[Z") ∈ lw_all := lw_g (lw_at lw_m3 33 rfl) rfl
theorem q616 : (Jvm.Cond.soleField "ValleyGuides" "isLeft") ∈ lw_all := lw_g (lw_at lw_m3 34 rfl) rfl
theorem q617 : (Jvm.Cond.laysFinal "ValleyGuides" "ValleyGuides" "tape" "[B") ∈ lw_all := lw_g (lw_at lw_m3 35 rfl) rfl
theorem q618 : (Jvm.Cond.soleField "ValleyGuides" "tape") ∈ lw_all := lw_g (lw_at lw_m3 36 rfl) rfl
theorem q619 : (Jvm.Cond.lays "ValleyGuides" "ValleyGuides" "taped" "I") ∈ lw_all := lw_g (lw_at lw_m3 37 rfl) rfl
theorem q620 : (Jvm.Cond.soleField "ValleyGuides" "taped") ∈ lw_all := lw_g (lw_at lw_m3 38 rfl) rfl
theorem q621 : (Jvm.Cond.lays "ValleyGuides" "ValleyGuides" "fault" "I") ∈ lw_all := lw_g (lw_at lw_m3 39 rfl) rfl
theorem q622 : (Jvm.Cond.soleField "ValleyGuides" "fault") ∈ lw_all := lw_g (lw_at lw_m3 40 rfl) rfl
theorem q623 : (Jvm.Cond.lays "ValleyGuides" "ValleyGuides" "lines" "Ljava/util/List;") ∈ lw_all := lw_g (lw_at lw_m3 41 rfl) rfl
theorem q624 : (Jvm.Cond.soleField "ValleyGuides" "lines") ∈ lw_all := lw_g (lw_at lw_m3 42 rfl) rfl
theorem q625 : (Jvm.Cond.lays "ValleyGuides" "ValleyGuides" "day" "I") ∈ lw_all := lw_g (lw_at lw_m3 43 rfl) rfl
theorem q626 : (Jvm.Cond.soleField "ValleyGuides" "day") ∈ lw_all := lw_g (lw_at lw_m3 44 rfl) rfl
theorem q627 : (Jvm.Cond.laysFinal "ValleyGuides" "ValleyGuides" "vars" "[I") ∈ lw_all := lw_g (lw_at lw_m3 45 rfl) rfl
theorem q628 : (Jvm.Cond.soleField "ValleyGuides" "vars") ∈ lw_all := lw_g (lw_at lw_m3 46 rfl) rfl
theorem q629 : (Jvm.Cond.laysFinal "ValleyGuides" "ValleyGuides" "guides" "[LValleyGuides$Guide;") ∈ lw_all := lw_g (lw_at lw_m3 47 rfl) rfl
theorem q630 : (Jvm.Cond.soleField "ValleyGuides" "guides") ∈ lw_all := lw_g (lw_at lw_m3 48 rfl) rfl
theorem q631 : (Jvm.Cond.lays "ValleyGuides" "ValleyGuides" "guideMany" "I") ∈ lw_all := lw_g (lw_at lw_m3 49 rfl) rfl
theorem q632 : (Jvm.Cond.soleField "ValleyGuides" "guideMany") ∈ lw_all := lw_g (lw_at lw_m3 50 rfl) rfl
theorem q633 : (Jvm.Cond.laysFinal "ValleyGuides" "ValleyGuides" "list" "Ljava/util/List;") ∈ lw_all := lw_g (lw_at lw_m3 51 rfl) rfl
theorem q634 : (Jvm.Cond.soleField "ValleyGuides" "list") ∈ lw_all := lw_g (lw_at lw_m3 52 rfl) rfl
theorem q635 : (Jvm.Cond.lays "ValleyGuides" "ValleyGuides" "purse" "I") ∈ lw_all := lw_g (lw_at lw_m3 53 rfl) rfl
theorem q636 : (Jvm.Cond.soleField "ValleyGuides" "purse") ∈ lw_all := lw_g (lw_at lw_m3 54 rfl) rfl
theorem q637 : (Jvm.Cond.laysFinal "ValleyGuides" "ValleyGuides" "going" "[LValleyGuides$Guide;") ∈ lw_all := lw_g (lw_at lw_m3 55 rfl) rfl
theorem q638 : (Jvm.Cond.soleField "ValleyGuides" "going") ∈ lw_all := lw_g (lw_at lw_m3 56 rfl) rfl
theorem q639 : (Jvm.Cond.laysFinal "ValleyGuides" "ValleyGuides" "strengths" "[I") ∈ lw_all := lw_g (lw_at lw_m3 57 rfl) rfl
theorem q640 : (Jvm.Cond.soleField "ValleyGuides" "strengths") ∈ lw_all := lw_g (lw_at lw_m3 58 rfl) rfl
theorem q641 : (Jvm.Cond.laysFinal "ValleyGuides" "ValleyGuides" "wishes" "[[I") ∈ lw_all := lw_g (lw_at lw_m3 59 rfl) rfl
theorem q642 : (Jvm.Cond.soleField "ValleyGuides" "wishes") ∈ lw_all := lw_g (lw_at lw_m3 60 rfl) rfl
theorem q643 : (Jvm.Cond.lays "ValleyGuides" "ValleyGuides" "people" "I") ∈ lw_all := lw_g (lw_at lw_m3 61 rfl) rfl
theorem q644 : (Jvm.Cond.soleField "ValleyGuides" "people") ∈ lw_all := lw_g (lw_at lw_m3 62 rfl) rfl
theorem q645 : (Jvm.Cond.laysFinal "ValleyGuides" "ValleyGuides" "best" "[I") ∈ lw_all := lw_g (lw_at lw_m3 63 rfl) rfl
theorem q646 : (Jvm.Cond.soleField "ValleyGuides" "best") ∈ lw_all := lw_g (lw_at lw_m3 64 rfl) rfl
theorem q647 : (Jvm.Cond.laysFinal "ValleyGuides" "ValleyGuides" "ropes" "[LValleyGuides$Rope;") ∈ lw_all := lw_g (lw_at lw_m3 65 rfl) rfl
theorem q648 : (Jvm.Cond.soleField "ValleyGuides" "ropes") ∈ lw_all := lw_g (lw_at lw_m3 66 rfl) rfl
theorem q649 : (Jvm.Cond.lays "ValleyGuides" "ValleyGuides" "ropeMany" "I") ∈ lw_all := lw_g (lw_at lw_m3 67 rfl) rfl
theorem q650 : (Jvm.Cond.soleField "ValleyGuides" "ropeMany") ∈ lw_all := lw_g (lw_at lw_m3 68 rfl) rfl
theorem q651 : (Jvm.Cond.laysFinal "ValleyGuides" "ValleyGuides" "bedsTaken" "[I") ∈ lw_all := lw_g (lw_at lw_m3 69 rfl) rfl
theorem q652 : (Jvm.Cond.soleField "ValleyGuides" "bedsTaken") ∈ lw_all := lw_g (lw_at lw_m3 70 rfl) rfl
theorem q653 : (Jvm.Cond.laysFinal "ValleyGuides" "ValleyGuides" "lain" "[I") ∈ lw_all := lw_g (lw_at lw_m3 71 rfl) rfl
theorem q654 : (Jvm.Cond.soleField "ValleyGuides" "lain") ∈ lw_all := lw_g (lw_at lw_m3 72 rfl) rfl
theorem q655 : (Jvm.Cond.laysFinal "ValleyGuides" "ValleyGuides" "visits" "[I") ∈ lw_all := lw_g (lw_at lw_m3 73 rfl) rfl
theorem q656 : (Jvm.Cond.soleField "ValleyGuides" "visits") ∈ lw_all := lw_g (lw_at lw_m3 74 rfl) rfl
theorem q657 : (Jvm.Cond.laysFinal "ValleyGuides" "ValleyGuides" "entryRoute" "[I") ∈ lw_all := lw_g (lw_at lw_m3 75 rfl) rfl
theorem q658 : (Jvm.Cond.soleField "ValleyGuides" "entryRoute") ∈ lw_all := lw_g (lw_at lw_m3 76 rfl) rfl
theorem q659 : (Jvm.Cond.laysFinal "ValleyGuides" "ValleyGuides" "entryGuide" "[I") ∈ lw_all := lw_g (lw_at lw_m3 77 rfl) rfl
theorem q660 : (Jvm.Cond.soleField "ValleyGuides" "entryGuide") ∈ lw_all := lw_g (lw_at lw_m3 78 rfl) rfl
theorem q661 : (Jvm.Cond.laysFinal "ValleyGuides" "ValleyGuides" "entryHours" "[I") ∈ lw_all := lw_g (lw_at lw_m3 79 rfl) rfl
theorem q662 : (Jvm.Cond.soleField "ValleyGuides" "entryHours") ∈ lw_all := lw_g (lw_at lw_m3 80 rfl) rfl
theorem q663 : (Jvm.Cond.lays "ValleyGuides" "ValleyGuides" "entryMany" "I") ∈ lw_all := lw_g (lw_at lw_m3 81 rfl) rfl
theorem q664 : (Jvm.Cond.soleField "ValleyGuides" "entryMany") ∈ lw_all := lw_g (lw_at lw_m3 82 rfl) rfl
theorem q665 : (Jvm.Cond.laysFinal "ValleyGuides" "ValleyGuides" "piece" "[I") ∈ lw_all := lw_g (lw_at lw_m3 83 rfl) rfl
theorem q666 : (Jvm.Cond.soleField "ValleyGuides" "piece") ∈ lw_all := lw_g (lw_at lw_m3 84 rfl) rfl
theorem q667 : (Jvm.Cond.laysFinal "ValleyGuides" "ValleyGuides" "rowOf" "[I") ∈ lw_all := lw_g (lw_at lw_m3 85 rfl) rfl
theorem q668 : (Jvm.Cond.soleField "ValleyGuides" "rowOf") ∈ lw_all := lw_g (lw_at lw_m3 86 rfl) rfl
theorem q669 : (Jvm.Cond.lays "ValleyGuides" "ValleyGuides" "table" "[[J") ∈ lw_all := lw_g (lw_at lw_m3 87 rfl) rfl
theorem q670 : (Jvm.Cond.soleField "ValleyGuides" "table") ∈ lw_all := lw_g (lw_at lw_m3 88 rfl) rfl
theorem q671 : (Jvm.Cond.lays "ValleyGuides" "ValleyGuides" "whole" "J") ∈ lw_all := lw_g (lw_at lw_m3 89 rfl) rfl
theorem q672 : (Jvm.Cond.soleField "ValleyGuides" "whole") ∈ lw_all := lw_g (lw_at lw_m3 90 rfl) rfl
theorem q673 : (Jvm.Cond.laysFinal "ValleyGuides" "ValleyGuides" "kept" "LValleyGuides$Image;") ∈ lw_all := lw_g (lw_at lw_m3 91 rfl) rfl
theorem q674 : (Jvm.Cond.soleField "ValleyGuides" "kept") ∈ lw_all := lw_g (lw_at lw_m3 92 rfl) rfl
theorem q675 : (Jvm.Cond.lays "ValleyGuides" "ValleyGuides" "isKept" "Z") ∈ lw_all := lw_g (lw_at lw_m3 93 rfl) rfl
theorem q676 : (Jvm.Cond.soleField "ValleyGuides" "isKept") ∈ lw_all := lw_g (lw_at lw_m3 94 rfl) rfl
theorem q677 : (Jvm.Cond.superclass "ValleyGuides" "java/lang/Object") ∈ lw_all := lw_g (lw_at lw_m3 95 rfl) rfl
theorem q679 : (Jvm.Cond.instanceMethod ({ cls := "ValleyGuides", name := "sheet", desc := "(III)I" } : Jvm.MethodName)) ∈ lw_all := lw_g (lw_at lw_m3 97 rfl) rfl
theorem q680 : (Jvm.Cond.selects "ValleyGuides" ({ cls := "ValleyGuides", name := "sheet", desc := "(III)I" } : Jvm.MethodName) ({ cls := "ValleyGuides", name := "sheet", desc := "(III)I" } : Jvm.MethodName)) ∈ lw_all := lw_g (lw_at lw_m3 98 rfl) rfl
theorem q681 : (Jvm.Cond.codeWith ({ cls := "ValleyGuides", name := "sheet", desc := "(III)I" } : Jvm.MethodName) prog_1_method_17_code (5 : Nat) (Option.some Jvm.ClassFile.FieldType.int) [((32 : Nat), (47 : Nat), (48 : Nat), (250 : Nat))]) ∈ lw_all := lw_g (lw_at lw_m3 99 rfl) rfl
theorem q682 : (Jvm.Cond.classLink "ValleyGuides" (250 : Nat) "java/lang/NegativeArraySizeException") ∈ lw_all := lw_g (lw_at lw_m3 100 rfl) rfl
theorem q767 : (Jvm.Cond.constantLong "ValleyGuides" (238 : Nat) (3 : Int64)) ∈ lw_all := lw_g (lw_at lw_m3 185 rfl) rfl
theorem q768 : (Jvm.Cond.constantLong "ValleyGuides" (240 : Nat) (2 : Int64)) ∈ lw_all := lw_g (lw_at lw_m3 186 rfl) rfl
theorem q769 : (Jvm.Cond.methodLink "ValleyGuides" (242 : Nat) ({ cls := "ValleyGuides", name := "newRow", desc := "(II)Ljava/lang/Object;" } : Jvm.MethodName)) ∈ lw_all := lw_g (lw_at lw_m3 187 rfl) rfl
theorem q770 : (Jvm.Cond.static ({ cls := "ValleyGuides", name := "newRow", desc := "(II)Ljava/lang/Object;" } : Jvm.MethodName)) ∈ lw_all := lw_g (lw_at lw_m3 188 rfl) rfl
theorem q771 : (Jvm.Cond.code ({ cls := "ValleyGuides", name := "newRow", desc := "(II)Ljava/lang/Object;" } : Jvm.MethodName) prog_1_method_16_code (2 : Nat) (Option.some (Jvm.ClassFile.FieldType.object "java/lang/Object"))) ∈ lw_all := lw_g (lw_at lw_m3 189 rfl) rfl
theorem q775 : (Jvm.Cond.instanceMethod ({ cls := "ValleyGuides", name := "lay", desc := "(III)I" } : Jvm.MethodName)) ∈ lw_all := lw_g (lw_at lw_m3 193 rfl) rfl
theorem q776 : (Jvm.Cond.selects "ValleyGuides" ({ cls := "ValleyGuides", name := "lay", desc := "(III)I" } : Jvm.MethodName) ({ cls := "ValleyGuides", name := "lay", desc := "(III)I" } : Jvm.MethodName)) ∈ lw_all := lw_g (lw_at lw_m3 194 rfl) rfl
theorem q777 : (Jvm.Cond.codeWith ({ cls := "ValleyGuides", name := "lay", desc := "(III)I" } : Jvm.MethodName) prog_1_method_18_code (6 : Nat) (Option.some Jvm.ClassFile.FieldType.int) [((25 : Nat), (91 : Nat), (92 : Nat), (262 : Nat)), ((25 : Nat), (91 : Nat), (97 : Nat), (264 : Nat))]) ∈ lw_all := lw_g (lw_at lw_m3 195 rfl) rfl
theorem q778 : (Jvm.Cond.classLink "ValleyGuides" (262 : Nat) "java/lang/NullPointerException") ∈ lw_all := lw_g (lw_at lw_m3 196 rfl) rfl
theorem q803 : (Jvm.Cond.classLink "ValleyGuides" (264 : Nat) "java/lang/ArrayIndexOutOfBoundsException") ∈ lw_all := lw_g (lw_at lw_m3 221 rfl) rfl
theorem q822 : (Jvm.Cond.classLink "ValleyGuides" (252 : Nat) "[F") ∈ lw_all := lw_g (lw_at lw_m4 0 rfl) rfl
theorem q823 : (Jvm.Cond.constant "ValleyGuides" (254 : Nat) (2000000000 : Int32)) ∈ lw_all := lw_g (lw_at lw_m4 1 rfl) rfl
theorem q824 : (Jvm.Cond.constantFloat "ValleyGuides" (257 : Nat) (2143289344 : UInt32)) ∈ lw_all := lw_g (lw_at lw_m4 2 rfl) rfl
theorem q825 : (Jvm.Cond.constantFloat "ValleyGuides" (258 : Nat) (1120403456 : UInt32)) ∈ lw_all := lw_g (lw_at lw_m4 3 rfl) rfl
theorem q826 : (Jvm.Cond.classLink "ValleyGuides" (259 : Nat) "[S") ∈ lw_all := lw_g (lw_at lw_m4 4 rfl) rfl
theorem q827 : (Jvm.Cond.classLink "ValleyGuides" (261 : Nat) "[B") ∈ lw_all := lw_g (lw_at lw_m4 5 rfl) rfl
theorem q829 : (Jvm.Cond.instanceMethod ({ cls := "ValleyGuides", name := "tear", desc := "(I)I" } : Jvm.MethodName)) ∈ lw_all := lw_g (lw_at lw_m4 7 rfl) rfl
theorem q830 : (Jvm.Cond.selects "ValleyGuides" ({ cls := "ValleyGuides", name := "tear", desc := "(I)I" } : Jvm.MethodName) ({ cls := "ValleyGuides", name := "tear", desc := "(I)I" } : Jvm.MethodName)) ∈ lw_all := lw_g (lw_at lw_m4 8 rfl) rfl
theorem q831 : (Jvm.Cond.code ({ cls := "ValleyGuides", name := "tear", desc := "(I)I" } : Jvm.MethodName) prog_1_method_19_code (3 : Nat) (Option.some Jvm.ClassFile.FieldType.int)) ∈ lw_all := lw_g (lw_at lw_m4 9 rfl) rfl
theorem q833 : (Jvm.Cond.instanceMethod ({ cls := "ValleyGuides", name := "weather", desc := "(II)I" } : Jvm.MethodName)) ∈ lw_all := lw_g (lw_at lw_m4 11 rfl) rfl
theorem q834 : (Jvm.Cond.selects "ValleyGuides" ({ cls := "ValleyGuides", name := "weather", desc := "(II)I" } : Jvm.MethodName) ({ cls := "ValleyGuides", name := "weather", desc := "(II)I" } : Jvm.MethodName)) ∈ lw_all := lw_g (lw_at lw_m4 12 rfl) rfl
theorem q835 : (Jvm.Cond.code ({ cls := "ValleyGuides", name := "weather", desc := "(II)I" } : Jvm.MethodName) prog_1_method_25_code (3 : Nat) (Option.some Jvm.ClassFile.FieldType.int)) ∈ lw_all := lw_g (lw_at lw_m4 13 rfl) rfl
theorem q836 : (Jvm.Cond.constantLong "ValleyGuides" (302 : Nat) (23 : Int64)) ∈ lw_all := lw_g (lw_at lw_m4 14 rfl) rfl
theorem q837 : (Jvm.Cond.methodLink "ValleyGuides" (298 : Nat) ({ cls := "ValleyGuides", name := "look", desc := "(I)V" } : Jvm.MethodName)) ∈ lw_all := lw_g (lw_at lw_m4 15 rfl) rfl
theorem q838 : (Jvm.Cond.privateMethod ({ cls := "ValleyGuides", name := "look", desc := "(I)V" } : Jvm.MethodName)) ∈ lw_tbl := lw_at lw_m4 16 rfl
theorem q839 : (Jvm.Cond.instanceMethod ({ cls := "ValleyGuides", name := "look", desc := "(I)V" } : Jvm.MethodName)) ∈ lw_all := lw_g (lw_at lw_m4 17 rfl) rfl
theorem q840 : (Jvm.Cond.codeWith ({ cls := "ValleyGuides", name := "look", desc := "(I)V" } : Jvm.MethodName) prog_1_method_23_code (4 : Nat) (Option.none : Option Jvm.ClassFile.FieldType) [((9 : Nat), (35 : Nat), (38 : Nat), (262 : Nat)), ((9 : Nat), (35 : Nat), (49 : Nat), (296 : Nat)), ((9 : Nat), (35 : Nat), (60 : Nat), (264 : Nat))]) ∈ lw_all := lw_g (lw_at lw_m4 18 rfl) rfl
theorem q841 : (Jvm.Cond.classLink "ValleyGuides" (296 : Nat) "java/lang/ClassCastException") ∈ lw_all := lw_g (lw_at lw_m4 19 rfl) rfl
theorem q855 : (Jvm.Cond.methodLink "ValleyGuides" (293 : Nat) ({ cls := "ValleyGuides", name := "read", desc := "(II)I" } : Jvm.MethodName)) ∈ lw_all := lw_g (lw_at lw_m4 33 rfl) rfl
theorem q856 : (Jvm.Cond.privateMethod ({ cls := "ValleyGuides", name := "read", desc := "(II)I" } : Jvm.MethodName)) ∈ lw_tbl := lw_at lw_m4 34 rfl
theorem q857 : (Jvm.Cond.instanceMethod ({ cls := "ValleyGuides", name := "read", desc := "(II)I" } : Jvm.MethodName)) ∈ lw_all := lw_g (lw_at lw_m4 35 rfl) rfl
theorem q858 : (Jvm.Cond.code ({ cls := "ValleyGuides", name := "read", desc := "(II)I" } : Jvm.MethodName) prog_1_method_22_code (4 : Nat) (Option.some Jvm.ClassFile.FieldType.int)) ∈ lw_all := lw_g (lw_at lw_m4 36 rfl) rfl
theorem q859 : (Jvm.Cond.methodLink "ValleyGuides" (285 : Nat) ({ cls := "ValleyGuides", name := "asWind", desc := "(F)I" } : Jvm.MethodName)) ∈ lw_all := lw_g (lw_at lw_m4 37 rfl) rfl
theorem q860 : (Jvm.Cond.static ({ cls := "ValleyGuides", name := "asWind", desc := "(F)I" } : Jvm.MethodName)) ∈ lw_all := lw_g (lw_at lw_m4 38 rfl) rfl
theorem q861 : (Jvm.Cond.code ({ cls := "ValleyGuides", name := "asWind", desc := "(F)I" } : Jvm.MethodName) prog_1_method_20_code (1 : Nat) (Option.some Jvm.ClassFile.FieldType.int)) ∈ lw_all := lw_g (lw_at lw_m4 39 rfl) rfl
theorem q862 : (Jvm.Cond.methodLink "ValleyGuides" (266 : Nat) ({ cls := "java/lang/Float", name := "isNaN", desc := "(F)Z" } : Jvm.MethodName)) ∈ lw_all := lw_g (lw_at lw_m4 40 rfl) rfl
theorem q865 : (Jvm.Cond.constantFloat "ValleyGuides" (270 : Nat) (1128792064 : UInt32)) ∈ lw_all := lw_g (lw_at lw_m4 43 rfl) rfl
theorem q866 : (Jvm.Cond.methodLink "ValleyGuides" (271 : Nat) ({ cls := "java/lang/Math", name := "min", desc := "(FF)F" } : Jvm.MethodName)) ∈ lw_all := lw_g (lw_at lw_m4 44 rfl) rfl
theorem q874 : (Jvm.Cond.methodLink "ValleyGuides" (277 : Nat) ({ cls := "java/lang/Math", name := "max", desc := "(FF)F" } : Jvm.MethodName)) ∈ lw_all := lw_g (lw_at lw_m4 52 rfl) rfl
theorem q877 : (Jvm.Cond.methodLink "ValleyGuides" (289 : Nat) ({ cls := "ValleyGuides", name := "asMuch", desc := "(I)I" } : Jvm.MethodName)) ∈ lw_all := lw_g (lw_at lw_m4 55 rfl) rfl
theorem q878 : (Jvm.Cond.static ({ cls := "ValleyGuides", name := "asMuch", desc := "(I)I" } : Jvm.MethodName)) ∈ lw_all := lw_g (lw_at lw_m4 56 rfl) rfl
theorem q879 : (Jvm.Cond.code ({ cls := "ValleyGuides", name := "asMuch", desc := "(I)I" } : Jvm.MethodName) prog_1_method_21_code (1 : Nat) (Option.some Jvm.ClassFile.FieldType.int)) ∈ lw_all := lw_g (lw_at lw_m4 57 rfl) rfl
theorem q880 : (Jvm.Cond.methodLink "ValleyGuides" (280 : Nat) ({ cls := "java/lang/Math", name := "min", desc := "(II)I" } : Jvm.MethodName)) ∈ lw_all := lw_g (lw_at lw_m4 58 rfl) rfl
theorem q881 : (Jvm.Cond.methodLink "ValleyGuides" (283 : Nat) ({ cls := "java/lang/Math", name := "max", desc := "(II)I" } : Jvm.MethodName)) ∈ lw_all := lw_g (lw_at lw_m4 59 rfl) rfl
theorem q883 : (Jvm.Cond.instanceMethod ({ cls := "ValleyGuides", name := "unknown", desc := "(II)I" } : Jvm.MethodName)) ∈ lw_all := lw_g (lw_at lw_m4 61 rfl) rfl
theorem q884 : (Jvm.Cond.selects "ValleyGuides" ({ cls := "ValleyGuides", name := "unknown", desc := "(II)I" } : Jvm.MethodName) ({ cls := "ValleyGuides", name := "unknown", desc := "(II)I" } : Jvm.MethodName)) ∈ lw_all := lw_g (lw_at lw_m4 62 rfl) rfl
theorem q885 : (Jvm.Cond.code ({ cls := "ValleyGuides", name := "unknown", desc := "(II)I" } : Jvm.MethodName) prog_1_method_26_code (3 : Nat) (Option.some Jvm.ClassFile.FieldType.int)) ∈ lw_all := lw_g (lw_at lw_m4 63 rfl) rfl
theorem q887 : (Jvm.Cond.instanceMethod ({ cls := "ValleyGuides", name := "takes", desc := "(III)I" } : Jvm.MethodName)) ∈ lw_all := lw_g (lw_at lw_m4 65 rfl) rfl
theorem q888 : (Jvm.Cond.selects "ValleyGuides" ({ cls := "ValleyGuides", name := "takes", desc := "(III)I" } : Jvm.MethodName) ({ cls := "ValleyGuides", name := "takes", desc := "(III)I" } : Jvm.MethodName)) ∈ lw_all := lw_g (lw_at lw_m4 66 rfl) rfl
theorem q889 : (Jvm.Cond.code ({ cls := "ValleyGuides", name := "takes", desc := "(III)I" } : Jvm.MethodName) prog_1_method_28_code (4 : Nat) (Option.some Jvm.ClassFile.FieldType.int)) ∈ lw_all := lw_g (lw_at lw_m4 67 rfl) rfl
theorem q890 : (Jvm.Cond.methodLink "ValleyGuides" (308 : Nat) ({ cls := "ValleyGuides", name := "isStrength", desc := "(I)Z" } : Jvm.MethodName)) ∈ lw_all := lw_g (lw_at lw_m4 68 rfl) rfl
theorem q891 : (Jvm.Cond.static ({ cls := "ValleyGuides", name := "isStrength", desc := "(I)Z" } : Jvm.MethodName)) ∈ lw_all := lw_g (lw_at lw_m4 69 rfl) rfl
theorem q892 : (Jvm.Cond.code ({ cls := "ValleyGuides", name := "isStrength", desc := "(I)Z" } : Jvm.MethodName) prog_1_method_6_code (1 : Nat) (Option.some Jvm.ClassFile.FieldType.boolean)) ∈ lw_all := lw_g (lw_at lw_m4 70 rfl) rfl
theorem q893 : (Jvm.Cond.methodLink "ValleyGuides" (311 : Nat) ({ cls := "ValleyGuides", name := "isQuarter", desc := "(I)Z" } : Jvm.MethodName)) ∈ lw_all := lw_g (lw_at lw_m4 71 rfl) rfl
theorem q894 : (Jvm.Cond.static ({ cls := "ValleyGuides", name := "isQuarter", desc := "(I)Z" } : Jvm.MethodName)) ∈ lw_all := lw_g (lw_at lw_m4 72 rfl) rfl
theorem q895 : (Jvm.Cond.code ({ cls := "ValleyGuides", name := "isQuarter", desc := "(I)Z" } : Jvm.MethodName) prog_1_method_5_code (1 : Nat) (Option.some Jvm.ClassFile.FieldType.boolean)) ∈ lw_all := lw_g (lw_at lw_m4 73 rfl) rfl
theorem q896 : (Jvm.Cond.constantLong "ValleyGuides" (19 : Nat) (95 : Int64)) ∈ lw_all := lw_g (lw_at lw_m4 74 rfl) rfl
theorem q897 : (Jvm.Cond.methodLink "ValleyGuides" (314 : Nat) ({ cls := "ValleyGuides", name := "lookAll", desc := "()V" } : Jvm.MethodName)) ∈ lw_all := lw_g (lw_at lw_m4 75 rfl) rfl
theorem q898 : (Jvm.Cond.privateMethod ({ cls := "ValleyGuides", name := "lookAll", desc := "()V" } : Jvm.MethodName)) ∈ lw_tbl := lw_at lw_m4 76 rfl
theorem q899 : (Jvm.Cond.instanceMethod ({ cls := "ValleyGuides", name := "lookAll", desc := "()V" } : Jvm.MethodName)) ∈ lw_all := lw_g (lw_at lw_m4 77 rfl) rfl
theorem q900 : (Jvm.Cond.code ({ cls := "ValleyGuides", name := "lookAll", desc := "()V" } : Jvm.MethodName) prog_1_method_24_code (2 : Nat) (Option.none : Option Jvm.ClassFile.FieldType)) ∈ lw_all := lw_g (lw_at lw_m4 78 rfl) rfl
theorem q901 : (Jvm.Cond.methodLink "ValleyGuides" (317 : Nat) ({ cls := "ValleyGuides", name := "takesOf", desc := "(LValleyGuides$Step;II)I" } : Jvm.MethodName)) ∈ lw_all := lw_g (lw_at lw_m4 79 rfl) rfl
theorem q902 : (Jvm.Cond.privateMethod ({ cls := "ValleyGuides", name := "takesOf", desc := "(LValleyGuides$Step;II)I" } : Jvm.MethodName)) ∈ lw_tbl := lw_at lw_m4 80 rfl
theorem q903 : (Jvm.Cond.instanceMethod ({ cls := "ValleyGuides", name := "takesOf", desc := "(LValleyGuides$Step;II)I" } : Jvm.MethodName)) ∈ lw_all := lw_g (lw_at lw_m4 81 rfl) rfl
theorem q904 : (Jvm.Cond.code ({ cls := "ValleyGuides", name := "takesOf", desc := "(LValleyGuides$Step;II)I" } : Jvm.MethodName) prog_1_method_27_code (4 : Nat) (Option.some Jvm.ClassFile.FieldType.int)) ∈ lw_all := lw_g (lw_at lw_m4 82 rfl) rfl
theorem q905 : (Jvm.Cond.methodLink "ValleyGuides" (304 : Nat) ({ cls := "ValleyGuides$Step", name := "takes", desc := "(II[I)I" } : Jvm.MethodName)) ∈ lw_all := lw_g (lw_at lw_m4 83 rfl) rfl
theorem q928 : (Jvm.Cond.instanceMethod ({ cls := "ValleyGuides", name := "hour", desc := "(III)I" } : Jvm.MethodName)) ∈ lw_all := lw_g (lw_at lw_m4 106 rfl) rfl
theorem q929 : (Jvm.Cond.selects "ValleyGuides" ({ cls := "ValleyGuides", name := "hour", desc := "(III)I" } : Jvm.MethodName) ({ cls := "ValleyGuides", name := "hour", desc := "(III)I" } : Jvm.MethodName)) ∈ lw_all := lw_g (lw_at lw_m4 107 rfl) rfl
theorem q930 : (Jvm.Cond.code ({ cls := "ValleyGuides", name := "hour", desc := "(III)I" } : Jvm.MethodName) prog_1_method_30_code (4 : Nat) (Option.some Jvm.ClassFile.FieldType.int)) ∈ lw_all := lw_g (lw_at lw_m4 108 rfl) rfl
theorem q931 : (Jvm.Cond.methodLink "ValleyGuides" (321 : Nat) ({ cls := "ValleyGuides", name := "hourOf", desc := "(LValleyGuides$Route;II)I" } : Jvm.MethodName)) ∈ lw_all := lw_g (lw_at lw_m4 109 rfl) rfl
theorem q932 : (Jvm.Cond.privateMethod ({ cls := "ValleyGuides", name := "hourOf", desc := "(LValleyGuides$Route;II)I" } : Jvm.MethodName)) ∈ lw_tbl := lw_at lw_m4 110 rfl
theorem q933 : (Jvm.Cond.instanceMethod ({ cls := "ValleyGuides", name := "hourOf", desc := "(LValleyGuides$Route;II)I" } : Jvm.MethodName)) ∈ lw_all := lw_g (lw_at lw_m4 111 rfl) rfl
theorem q934 : (Jvm.Cond.code ({ cls := "ValleyGuides", name := "hourOf", desc := "(LValleyGuides$Route;II)I" } : Jvm.MethodName) prog_1_method_29_code (7 : Nat) (Option.some Jvm.ClassFile.FieldType.int)) ∈ lw_all := lw_g (lw_at lw_m4 112 rfl) rfl
theorem q936 : (Jvm.Cond.instanceMethod ({ cls := "ValleyGuides", name := "late", desc := "(III)I" } : Jvm.MethodName)) ∈ lw_all := lw_g (lw_at lw_m4 114 rfl) rfl
theorem q937 : (Jvm.Cond.selects "ValleyGuides" ({ cls := "ValleyGuides", name := "late", desc := "(III)I" } : Jvm.MethodName) ({ cls := "ValleyGuides", name := "late", desc := "(III)I" } : Jvm.MethodName)) ∈ lw_all := lw_g (lw_at lw_m4 115 rfl) rfl
theorem q938 : (Jvm.Cond.code ({ cls := "ValleyGuides", name := "late", desc := "(III)I" } : Jvm.MethodName) prog_1_method_31_code (5 : Nat) (Option.some Jvm.ClassFile.FieldType.int)) ∈ lw_all := lw_g (lw_at lw_m4 116 rfl) rfl
theorem q940 : (Jvm.Cond.instanceMethod ({ cls := "ValleyGuides", name := "way", desc := "(IIII)I" } : Jvm.MethodName)) ∈ lw_all := lw_g (lw_at lw_m4 118 rfl) rfl
theorem q941 : (Jvm.Cond.selects "ValleyGuides" ({ cls := "ValleyGuides", name := "way", desc := "(IIII)I" } : Jvm.MethodName) ({ cls := "ValleyGuides", name := "way", desc := "(IIII)I" } : Jvm.MethodName)) ∈ lw_all := lw_g (lw_at lw_m4 119 rfl) rfl
theorem q942 : (Jvm.Cond.code ({ cls := "ValleyGuides", name := "way", desc := "(IIII)I" } : Jvm.MethodName) prog_1_method_33_code (5 : Nat) (Option.some Jvm.ClassFile.FieldType.int)) ∈ lw_all := lw_g (lw_at lw_m4 120 rfl) rfl
theorem q943 : (Jvm.Cond.methodLink "ValleyGuides" (325 : Nat) ({ cls := "ValleyGuides", name := "spread", desc := "(III)V" } : Jvm.MethodName)) ∈ lw_all := lw_g (lw_at lw_m4 121 rfl) rfl
theorem q944 : (Jvm.Cond.privateMethod ({ cls := "ValleyGuides", name := "spread", desc := "(III)V" } : Jvm.MethodName)) ∈ lw_tbl := lw_at lw_m4 122 rfl
theorem q945 : (Jvm.Cond.instanceMethod ({ cls := "ValleyGuides", name := "spread", desc := "(III)V" } : Jvm.MethodName)) ∈ lw_all := lw_g (lw_at lw_m4 123 rfl) rfl
theorem q946 : (Jvm.Cond.code ({ cls := "ValleyGuides", name := "spread", desc := "(III)V" } : Jvm.MethodName) prog_1_method_32_code (8 : Nat) (Option.none : Option Jvm.ClassFile.FieldType)) ∈ lw_all := lw_g (lw_at lw_m4 124 rfl) rfl
theorem q948 : (Jvm.Cond.instanceMethod ({ cls := "ValleyGuides", name := "feed", desc := "(J)I" } : Jvm.MethodName)) ∈ lw_all := lw_g (lw_at lw_m4 126 rfl) rfl
theorem q949 : (Jvm.Cond.selects "ValleyGuides" ({ cls := "ValleyGuides", name := "feed", desc := "(J)I" } : Jvm.MethodName) ({ cls := "ValleyGuides", name := "feed", desc := "(J)I" } : Jvm.MethodName)) ∈ lw_all := lw_g (lw_at lw_m4 127 rfl) rfl
theorem q950 : (Jvm.Cond.code ({ cls := "ValleyGuides", name := "feed", desc := "(J)I" } : Jvm.MethodName) prog_1_method_35_code (4 : Nat) (Option.some Jvm.ClassFile.FieldType.int)) ∈ lw_all := lw_g (lw_at lw_m4 128 rfl) rfl
theorem q952 : (Jvm.Cond.instanceMethod ({ cls := "ValleyGuides", name := "end", desc := "(I)I" } : Jvm.MethodName)) ∈ lw_all := lw_g (lw_at lw_m4 130 rfl) rfl
theorem q953 : (Jvm.Cond.selects "ValleyGuides" ({ cls := "ValleyGuides", name := "end", desc := "(I)I" } : Jvm.MethodName) ({ cls := "ValleyGuides", name := "end", desc := "(I)I" } : Jvm.MethodName)) ∈ lw_all := lw_g (lw_at lw_m4 131 rfl) rfl
theorem q954 : (Jvm.Cond.code ({ cls := "ValleyGuides", name := "end", desc := "(I)I" } : Jvm.MethodName) prog_1_method_36_code (3 : Nat) (Option.some Jvm.ClassFile.FieldType.int)) ∈ lw_all := lw_g (lw_at lw_m4 132 rfl) rfl
theorem q956 : (Jvm.Cond.instanceMethod ({ cls := "ValleyGuides", name := "text", desc := "()I" } : Jvm.MethodName)) ∈ lw_all := lw_g (lw_at lw_m4 134 rfl) rfl
theorem q957 : (Jvm.Cond.selects "ValleyGuides" ({ cls := "ValleyGuides", name := "text", desc := "()I" } : Jvm.MethodName) ({ cls := "ValleyGuides", name := "text", desc := "()I" } : Jvm.MethodName)) ∈ lw_all := lw_g (lw_at lw_m4 135 rfl) rfl
theorem q958 : (Jvm.Cond.codeWith ({ cls := "ValleyGuides", name := "text", desc := "()I" } : Jvm.MethodName) prog_1_method_37_code (3 : Nat) (Option.some Jvm.ClassFile.FieldType.int) [((26 : Nat), (55 : Nat), (56 : Nat), (359 : Nat))]) ∈ lw_all := lw_g (lw_at lw_m4 136 rfl) rfl
theorem q959 : (Jvm.Cond.classLink "ValleyGuides" (359 : Nat) "ValleyGuides$Fault") ∈ lw_all := lw_g (lw_at lw_m4 137 rfl) rfl
theorem q960 : (Jvm.Cond.methodLink "ValleyGuides" (341 : Nat) ({ cls := "java/lang/System", name := "arraycopy", desc := "(Ljava/lang/Object;ILjava/lang/Object;II)V" } : Jvm.MethodName)) ∈ lw_all := lw_g (lw_at lw_m4 138 rfl) rfl
theorem q961 : (Jvm.Cond.classLink "ValleyGuides" (347 : Nat) "ValleyGuides$Reader") ∈ lw_all := lw_g (lw_at lw_m4 139 rfl) rfl
theorem q963 : (Jvm.Cond.methodLink "ValleyGuides" (349 : Nat) ({ cls := "ValleyGuides$Reader", name := "<init>", desc := "([B)V" } : Jvm.MethodName)) ∈ lw_all := lw_g (lw_at lw_m4 141 rfl) rfl
theorem q979 : (Jvm.Cond.laysStatic "ValleyGuides" "NAMES" "[Ljava/lang/String;") ∈ lw_tbl := lw_at lw_m4 157 rfl
theorem q1056 : (Jvm.Cond.fieldLinkNest "ValleyGuides" (361 : Nat) "ValleyGuides$Fault" "code" "I" "ValleyGuides") ∈ lw_tbl := lw_at lw_m4 234 rfl
theorem q1058 : (Jvm.Cond.fieldLinkNest "ValleyGuides" (364 : Nat) "ValleyGuides$Fault" "place" "I" "ValleyGuides") ∈ lw_tbl := lw_at lw_m4 236 rfl
theorem q1086 : (Jvm.Cond.methodLink "ValleyGuides" (352 : Nat) ({ cls := "ValleyGuides$Reader", name := "all", desc := "()Ljava/util/List;" } : Jvm.MethodName)) ∈ lw_all := lw_g (lw_at lw_m5 24 rfl) rfl
theorem q1227 : (Jvm.Cond.fieldLinkNest "ValleyGuides" (372 : Nat) "ValleyGuides$Line" "kind" "I" "ValleyGuides") ∈ lw_tbl := lw_at lw_m5 165 rfl
theorem q1229 : (Jvm.Cond.fieldLinkNest "ValleyGuides" (375 : Nat) "ValleyGuides$Line" "part" "LValleyGuides$Part;" "ValleyGuides") ∈ lw_tbl := lw_at lw_m5 167 rfl
theorem q1238 : (Jvm.Cond.instanceMethod ({ cls := "ValleyGuides", name := "fault", desc := "()I" } : Jvm.MethodName)) ∈ lw_all := lw_g (lw_at lw_m5 176 rfl) rfl
theorem q1239 : (Jvm.Cond.selects "ValleyGuides" ({ cls := "ValleyGuides", name := "fault", desc := "()I" } : Jvm.MethodName) ({ cls := "ValleyGuides", name := "fault", desc := "()I" } : Jvm.MethodName)) ∈ lw_all := lw_g (lw_at lw_m5 177 rfl) rfl
theorem q1240 : (Jvm.Cond.code ({ cls := "ValleyGuides", name := "fault", desc := "()I" } : Jvm.MethodName) prog_1_method_38_code (1 : Nat) (Option.some Jvm.ClassFile.FieldType.int)) ∈ lw_all := lw_g (lw_at lw_m5 178 rfl) rfl
theorem q1242 : (Jvm.Cond.instanceMethod ({ cls := "ValleyGuides", name := "why", desc := "(III)I" } : Jvm.MethodName)) ∈ lw_all := lw_g (lw_at lw_m5 180 rfl) rfl
theorem q1243 : (Jvm.Cond.selects "ValleyGuides" ({ cls := "ValleyGuides", name := "why", desc := "(III)I" } : Jvm.MethodName) ({ cls := "ValleyGuides", name := "why", desc := "(III)I" } : Jvm.MethodName)) ∈ lw_all := lw_g (lw_at lw_m5 181 rfl) rfl
theorem q1244 : (Jvm.Cond.code ({ cls := "ValleyGuides", name := "why", desc := "(III)I" } : Jvm.MethodName) prog_1_method_43_code (4 : Nat) (Option.some Jvm.ClassFile.FieldType.int)) ∈ lw_all := lw_g (lw_at lw_m5 182 rfl) rfl
theorem q1245 : (Jvm.Cond.methodLink "ValleyGuides" (389 : Nat) ({ cls := "ValleyGuides", name := "isAsked", desc := "(III)Z" } : Jvm.MethodName)) ∈ lw_all := lw_g (lw_at lw_m5 183 rfl) rfl
theorem q1246 : (Jvm.Cond.privateMethod ({ cls := "ValleyGuides", name := "isAsked", desc := "(III)Z" } : Jvm.MethodName)) ∈ lw_tbl := lw_at lw_m5 184 rfl
theorem q1247 : (Jvm.Cond.instanceMethod ({ cls := "ValleyGuides", name := "isAsked", desc := "(III)Z" } : Jvm.MethodName)) ∈ lw_all := lw_g (lw_at lw_m5 185 rfl) rfl
theorem q1248 : (Jvm.Cond.code ({ cls := "ValleyGuides", name := "isAsked", desc := "(III)Z" } : Jvm.MethodName) prog_1_method_41_code (4 : Nat) (Option.some Jvm.ClassFile.FieldType.boolean)) ∈ lw_all := lw_g (lw_at lw_m5 186 rfl) rfl
theorem q1249 : (Jvm.Cond.methodLink "ValleyGuides" (393 : Nat) ({ cls := "ValleyGuides", name := "ask", desc := "(III)V" } : Jvm.MethodName)) ∈ lw_all := lw_g (lw_at lw_m5 187 rfl) rfl
theorem q1250 : (Jvm.Cond.privateMethod ({ cls := "ValleyGuides", name := "ask", desc := "(III)V" } : Jvm.MethodName)) ∈ lw_tbl := lw_at lw_m5 188 rfl
theorem q1251 : (Jvm.Cond.instanceMethod ({ cls := "ValleyGuides", name := "ask", desc := "(III)V" } : Jvm.MethodName)) ∈ lw_all := lw_g (lw_at lw_m5 189 rfl) rfl
theorem q1252 : (Jvm.Cond.code ({ cls := "ValleyGuides", name := "ask", desc := "(III)V" } : Jvm.MethodName) prog_1_method_42_code (4 : Nat) (Option.none : Option Jvm.ClassFile.FieldType)) ∈ lw_all := lw_g (lw_at lw_m5 190 rfl) rfl
theorem q1253 : (Jvm.Cond.methodLink "ValleyGuides" (385 : Nat) ({ cls := "ValleyGuides", name := "layVars", desc := "(LValleyGuides$Route;II)V" } : Jvm.MethodName)) ∈ lw_all := lw_g (lw_at lw_m5 191 rfl) rfl
theorem q1254 : (Jvm.Cond.privateMethod ({ cls := "ValleyGuides", name := "layVars", desc := "(LValleyGuides$Route;II)V" } : Jvm.MethodName)) ∈ lw_tbl := lw_at lw_m5 192 rfl
theorem q1255 : (Jvm.Cond.instanceMethod ({ cls := "ValleyGuides", name := "layVars", desc := "(LValleyGuides$Route;II)V" } : Jvm.MethodName)) ∈ lw_all := lw_g (lw_at lw_m5 193 rfl) rfl
theorem q1256 : (Jvm.Cond.code ({ cls := "ValleyGuides", name := "layVars", desc := "(LValleyGuides$Route;II)V" } : Jvm.MethodName) prog_1_method_39_code (5 : Nat) (Option.none : Option Jvm.ClassFile.FieldType)) ∈ lw_all := lw_g (lw_at lw_m5 194 rfl) rfl
theorem q1257 : (Jvm.Cond.methodLink "ValleyGuides" (396 : Nat) ({ cls := "ValleyGuides", name := "first", desc := "(I)I" } : Jvm.MethodName)) ∈ lw_all := lw_g (lw_at lw_m5 195 rfl) rfl
theorem q1258 : (Jvm.Cond.privateMethod ({ cls := "ValleyGuides", name := "first", desc := "(I)I" } : Jvm.MethodName)) ∈ lw_tbl := lw_at lw_m5 196 rfl
theorem q1259 : (Jvm.Cond.instanceMethod ({ cls := "ValleyGuides", name := "first", desc := "(I)I" } : Jvm.MethodName)) ∈ lw_all := lw_g (lw_at lw_m5 197 rfl) rfl
theorem q1260 : (Jvm.Cond.code ({ cls := "ValleyGuides", name := "first", desc := "(I)I" } : Jvm.MethodName) prog_1_method_40_code (3 : Nat) (Option.some Jvm.ClassFile.FieldType.int)) ∈ lw_all := lw_g (lw_at lw_m5 198 rfl) rfl
theorem q1261 : (Jvm.Cond.classLink "ValleyGuides" (370 : Nat) "ValleyGuides$Line") ∈ lw_all := lw_g (lw_at lw_m5 199 rfl) rfl
theorem q1262 : (Jvm.Cond.methodLink "ValleyGuides" (379 : Nat) ({ cls := "ValleyGuides$Part", name := "of", desc := "([I)I" } : Jvm.MethodName)) ∈ lw_all := lw_g (lw_at lw_m5 200 rfl) rfl
theorem q1283 : (Jvm.Cond.static ({ cls := "ValleyGuides", name := "held", desc := "(J)I" } : Jvm.MethodName)) ∈ lw_all := lw_g (lw_at lw_m5 221 rfl) rfl
theorem q1284 : (Jvm.Cond.code ({ cls := "ValleyGuides", name := "held", desc := "(J)I" } : Jvm.MethodName) prog_1_method_34_code (2 : Nat) (Option.some Jvm.ClassFile.FieldType.int)) ∈ lw_all := lw_g (lw_at lw_m5 222 rfl) rfl
theorem q1285 : (Jvm.Cond.constantLong "ValleyGuides" (329 : Nat) (-1000000 : Int64)) ∈ lw_all := lw_g (lw_at lw_m5 223 rfl) rfl
theorem q1286 : (Jvm.Cond.constantLong "ValleyGuides" (331 : Nat) (1000000 : Int64)) ∈ lw_all := lw_g (lw_at lw_m5 224 rfl) rfl
theorem q1287 : (Jvm.Cond.methodLink "ValleyGuides" (333 : Nat) ({ cls := "java/lang/Math", name := "min", desc := "(JJ)J" } : Jvm.MethodName)) ∈ lw_all := lw_g (lw_at lw_m5 225 rfl) rfl
theorem q1290 : (Jvm.Cond.methodLink "ValleyGuides" (336 : Nat) ({ cls := "java/lang/Math", name := "max", desc := "(JJ)J" } : Jvm.MethodName)) ∈ lw_all := lw_g (lw_at lw_m5 228 rfl) rfl
theorem q1312 : (Jvm.Cond.instanceMethod ({ cls := "ValleyGuides", name := "pay", desc := "(III)I" } : Jvm.MethodName)) ∈ lw_all := lw_g (lw_at lw_m6 10 rfl) rfl
theorem q1313 : (Jvm.Cond.selects "ValleyGuides" ({ cls := "ValleyGuides", name := "pay", desc := "(III)I" } : Jvm.MethodName) ({ cls := "ValleyGuides", name := "pay", desc := "(III)I" } : Jvm.MethodName)) ∈ lw_all := lw_g (lw_at lw_m6 11 rfl) rfl
theorem q1314 : (Jvm.Cond.code ({ cls := "ValleyGuides", name := "pay", desc := "(III)I" } : Jvm.MethodName) prog_1_method_46_code (4 : Nat) (Option.some Jvm.ClassFile.FieldType.int)) ∈ lw_all := lw_g (lw_at lw_m6 12 rfl) rfl
theorem q1315 : (Jvm.Cond.methodLink "ValleyGuides" (399 : Nat) ({ cls := "ValleyGuides", name := "paid", desc := "()I" } : Jvm.MethodName)) ∈ lw_all := lw_g (lw_at lw_m6 13 rfl) rfl
theorem q1316 : (Jvm.Cond.privateMethod ({ cls := "ValleyGuides", name := "paid", desc := "()I" } : Jvm.MethodName)) ∈ lw_tbl := lw_at lw_m6 14 rfl
theorem q1317 : (Jvm.Cond.instanceMethod ({ cls := "ValleyGuides", name := "paid", desc := "()I" } : Jvm.MethodName)) ∈ lw_all := lw_g (lw_at lw_m6 15 rfl) rfl
theorem q1318 : (Jvm.Cond.code ({ cls := "ValleyGuides", name := "paid", desc := "()I" } : Jvm.MethodName) prog_1_method_44_code (4 : Nat) (Option.some Jvm.ClassFile.FieldType.int)) ∈ lw_all := lw_g (lw_at lw_m6 16 rfl) rfl
theorem q1320 : (Jvm.Cond.instanceMethod ({ cls := "ValleyGuides", name := "asked", desc := "(III)I" } : Jvm.MethodName)) ∈ lw_all := lw_g (lw_at lw_m6 18 rfl) rfl
theorem q1321 : (Jvm.Cond.selects "ValleyGuides" ({ cls := "ValleyGuides", name := "asked", desc := "(III)I" } : Jvm.MethodName) ({ cls := "ValleyGuides", name := "asked", desc := "(III)I" } : Jvm.MethodName)) ∈ lw_all := lw_g (lw_at lw_m6 19 rfl) rfl
theorem q1322 : (Jvm.Cond.code ({ cls := "ValleyGuides", name := "asked", desc := "(III)I" } : Jvm.MethodName) prog_1_method_47_code (4 : Nat) (Option.some Jvm.ClassFile.FieldType.int)) ∈ lw_all := lw_g (lw_at lw_m6 20 rfl) rfl
theorem q1323 : (Jvm.Cond.methodLink "ValleyGuides" (402 : Nat) ({ cls := "ValleyGuides", name := "wanted", desc := "()I" } : Jvm.MethodName)) ∈ lw_all := lw_g (lw_at lw_m6 21 rfl) rfl
theorem q1324 : (Jvm.Cond.privateMethod ({ cls := "ValleyGuides", name := "wanted", desc := "()I" } : Jvm.MethodName)) ∈ lw_tbl := lw_at lw_m6 22 rfl
theorem q1325 : (Jvm.Cond.instanceMethod ({ cls := "ValleyGuides", name := "wanted", desc := "()I" } : Jvm.MethodName)) ∈ lw_all := lw_g (lw_at lw_m6 23 rfl) rfl
theorem q1326 : (Jvm.Cond.code ({ cls := "ValleyGuides", name := "wanted", desc := "()I" } : Jvm.MethodName) prog_1_method_45_code (3 : Nat) (Option.some Jvm.ClassFile.FieldType.int)) ∈ lw_all := lw_g (lw_at lw_m6 24 rfl) rfl
theorem q1328 : (Jvm.Cond.instanceMethod ({ cls := "ValleyGuides", name := "guide", desc := "(III)I" } : Jvm.MethodName)) ∈ lw_all := lw_g (lw_at lw_m6 26 rfl) rfl
theorem q1329 : (Jvm.Cond.selects "ValleyGuides" ({ cls := "ValleyGuides", name := "guide", desc := "(III)I" } : Jvm.MethodName) ({ cls := "ValleyGuides", name := "guide", desc := "(III)I" } : Jvm.MethodName)) ∈ lw_all := lw_g (lw_at lw_m6 27 rfl) rfl
theorem q1330 : (Jvm.Cond.code ({ cls := "ValleyGuides", name := "guide", desc := "(III)I" } : Jvm.MethodName) prog_1_method_49_code (4 : Nat) (Option.some Jvm.ClassFile.FieldType.int)) ∈ lw_all := lw_g (lw_at lw_m6 28 rfl) rfl
theorem q1331 : (Jvm.Cond.constantLong "ValleyGuides" (408 : Nat) (999 : Int64)) ∈ lw_all := lw_g (lw_at lw_m6 29 rfl) rfl
theorem q1333 : (Jvm.Cond.methodLink "ValleyGuides" (410 : Nat) ({ cls := "ValleyGuides$Guide", name := "<init>", desc := "(IIII)V" } : Jvm.MethodName)) ∈ lw_all := lw_g (lw_at lw_m6 31 rfl) rfl
theorem q1338 : (Jvm.Cond.fieldLinkNest "ValleyGuides" (438 : Nat) "ValleyGuides$Guide" "number" "I" "ValleyGuides") ∈ lw_tbl := lw_at lw_m6 36 rfl
theorem q1340 : (Jvm.Cond.fieldLinkNest "ValleyGuides" (419 : Nat) "ValleyGuides$Guide" "grade" "I" "ValleyGuides") ∈ lw_tbl := lw_at lw_m6 38 rfl
theorem q1342 : (Jvm.Cond.fieldLinkNest "ValleyGuides" (422 : Nat) "ValleyGuides$Guide" "strength" "I" "ValleyGuides") ∈ lw_tbl := lw_at lw_m6 40 rfl
theorem q1344 : (Jvm.Cond.fieldLinkNest "ValleyGuides" (416 : Nat) "ValleyGuides$Guide" "papers" "I" "ValleyGuides") ∈ lw_tbl := lw_at lw_m6 42 rfl
theorem q1345 : (Jvm.Cond.fieldLinkNest "ValleyGuides" (429 : Nat) "ValleyGuides$Guide" "isOut" "Z" "ValleyGuides") ∈ lw_tbl := lw_at lw_m6 43 rfl
theorem q1346 : (Jvm.Cond.fieldLinkNest "ValleyGuides" (432 : Nat) "ValleyGuides$Guide" "had" "I" "ValleyGuides") ∈ lw_tbl := lw_at lw_m6 44 rfl
theorem q1347 : (Jvm.Cond.fieldLinkNest "ValleyGuides" (435 : Nat) "ValleyGuides$Guide" "given" "I" "ValleyGuides") ∈ lw_tbl := lw_at lw_m6 45 rfl
theorem q1364 : (Jvm.Cond.instanceMethod ({ cls := "ValleyGuides", name := "papers", desc := "(II)I" } : Jvm.MethodName)) ∈ lw_all := lw_g (lw_at lw_m6 62 rfl) rfl
theorem q1365 : (Jvm.Cond.selects "ValleyGuides" ({ cls := "ValleyGuides", name := "papers", desc := "(II)I" } : Jvm.MethodName) ({ cls := "ValleyGuides", name := "papers", desc := "(II)I" } : Jvm.MethodName)) ∈ lw_all := lw_g (lw_at lw_m6 63 rfl) rfl
theorem q1366 : (Jvm.Cond.code ({ cls := "ValleyGuides", name := "papers", desc := "(II)I" } : Jvm.MethodName) prog_1_method_50_code (4 : Nat) (Option.some Jvm.ClassFile.FieldType.int)) ∈ lw_all := lw_g (lw_at lw_m6 64 rfl) rfl
theorem q1367 : (Jvm.Cond.methodLink "ValleyGuides" (413 : Nat) ({ cls := "ValleyGuides", name := "isGuide", desc := "(I)Z" } : Jvm.MethodName)) ∈ lw_all := lw_g (lw_at lw_m6 65 rfl) rfl
theorem q1368 : (Jvm.Cond.privateMethod ({ cls := "ValleyGuides", name := "isGuide", desc := "(I)Z" } : Jvm.MethodName)) ∈ lw_tbl := lw_at lw_m6 66 rfl
theorem q1369 : (Jvm.Cond.instanceMethod ({ cls := "ValleyGuides", name := "isGuide", desc := "(I)Z" } : Jvm.MethodName)) ∈ lw_all := lw_g (lw_at lw_m6 67 rfl) rfl
theorem q1370 : (Jvm.Cond.code ({ cls := "ValleyGuides", name := "isGuide", desc := "(I)Z" } : Jvm.MethodName) prog_1_method_48_code (2 : Nat) (Option.some Jvm.ClassFile.FieldType.boolean)) ∈ lw_all := lw_g (lw_at lw_m6 68 rfl) rfl
theorem q1372 : (Jvm.Cond.instanceMethod ({ cls := "ValleyGuides", name := "told", desc := "(II)I" } : Jvm.MethodName)) ∈ lw_all := lw_g (lw_at lw_m6 70 rfl) rfl
theorem q1373 : (Jvm.Cond.selects "ValleyGuides" ({ cls := "ValleyGuides", name := "told", desc := "(II)I" } : Jvm.MethodName) ({ cls := "ValleyGuides", name := "told", desc := "(II)I" } : Jvm.MethodName)) ∈ lw_all := lw_g (lw_at lw_m6 71 rfl) rfl
theorem q1374 : (Jvm.Cond.code ({ cls := "ValleyGuides", name := "told", desc := "(II)I" } : Jvm.MethodName) prog_1_method_51_code (4 : Nat) (Option.some Jvm.ClassFile.FieldType.int)) ∈ lw_all := lw_g (lw_at lw_m6 72 rfl) rfl
theorem q1375 : (Jvm.Cond.interfaceEntry "ValleyGuides" (425 : Nat)) ∈ lw_tbl := lw_at lw_m6 73 rfl
theorem q1376 : (Jvm.Cond.methodLink "ValleyGuides" (425 : Nat) ({ cls := "java/util/List", name := "indexOf", desc := "(Ljava/lang/Object;)I" } : Jvm.MethodName)) ∈ lw_all := lw_g (lw_at lw_m6 74 rfl) rfl
theorem q1392 : (Jvm.Cond.selects "ValleyGuides" ({ cls := "java/lang/Object", name := "equals", desc := "(Ljava/lang/Object;)Z" } : Jvm.MethodName) ({ cls := "java/lang/Object", name := "equals", desc := "(Ljava/lang/Object;)Z" } : Jvm.MethodName)) ∈ lw_all := lw_g (lw_at lw_m6 90 rfl) rfl
theorem q1427 : (Jvm.Cond.instanceMethod ({ cls := "ValleyGuides", name := "list", desc := "(I)I" } : Jvm.MethodName)) ∈ lw_all := lw_g (lw_at lw_m6 125 rfl) rfl
theorem q1428 : (Jvm.Cond.selects "ValleyGuides" ({ cls := "ValleyGuides", name := "list", desc := "(I)I" } : Jvm.MethodName) ({ cls := "ValleyGuides", name := "list", desc := "(I)I" } : Jvm.MethodName)) ∈ lw_all := lw_g (lw_at lw_m6 126 rfl) rfl
theorem q1429 : (Jvm.Cond.code ({ cls := "ValleyGuides", name := "list", desc := "(I)I" } : Jvm.MethodName) prog_1_method_52_code (2 : Nat) (Option.some Jvm.ClassFile.FieldType.int)) ∈ lw_all := lw_g (lw_at lw_m6 127 rfl) rfl
theorem q1431 : (Jvm.Cond.instanceMethod ({ cls := "ValleyGuides", name := "day", desc := "(I)I" } : Jvm.MethodName)) ∈ lw_all := lw_g (lw_at lw_m6 129 rfl) rfl
theorem q1432 : (Jvm.Cond.selects "ValleyGuides" ({ cls := "ValleyGuides", name := "day", desc := "(I)I" } : Jvm.MethodName) ({ cls := "ValleyGuides", name := "day", desc := "(I)I" } : Jvm.MethodName)) ∈ lw_all := lw_g (lw_at lw_m6 130 rfl) rfl
theorem q1433 : (Jvm.Cond.code ({ cls := "ValleyGuides", name := "day", desc := "(I)I" } : Jvm.MethodName) prog_1_method_53_code (4 : Nat) (Option.some Jvm.ClassFile.FieldType.int)) ∈ lw_all := lw_g (lw_at lw_m6 131 rfl) rfl
theorem q1435 : (Jvm.Cond.instanceMethod ({ cls := "ValleyGuides", name := "turn", desc := "(IIII)I" } : Jvm.MethodName)) ∈ lw_all := lw_g (lw_at lw_m6 133 rfl) rfl
theorem q1436 : (Jvm.Cond.selects "ValleyGuides" ({ cls := "ValleyGuides", name := "turn", desc := "(IIII)I" } : Jvm.MethodName) ({ cls := "ValleyGuides", name := "turn", desc := "(IIII)I" } : Jvm.MethodName)) ∈ lw_all := lw_g (lw_at lw_m6 134 rfl) rfl
theorem q1437 : (Jvm.Cond.code ({ cls := "ValleyGuides", name := "turn", desc := "(IIII)I" } : Jvm.MethodName) prog_1_method_55_code (6 : Nat) (Option.some Jvm.ClassFile.FieldType.int)) ∈ lw_all := lw_g (lw_at lw_m6 135 rfl) rfl
theorem q1438 : (Jvm.Cond.methodLink "ValleyGuides" (441 : Nat) ({ cls := "ValleyGuides", name := "take", desc := "(I)I" } : Jvm.MethodName)) ∈ lw_all := lw_g (lw_at lw_m6 136 rfl) rfl
theorem q1439 : (Jvm.Cond.privateMethod ({ cls := "ValleyGuides", name := "take", desc := "(I)I" } : Jvm.MethodName)) ∈ lw_tbl := lw_at lw_m6 137 rfl
theorem q1440 : (Jvm.Cond.instanceMethod ({ cls := "ValleyGuides", name := "take", desc := "(I)I" } : Jvm.MethodName)) ∈ lw_all := lw_g (lw_at lw_m6 138 rfl) rfl
theorem q1441 : (Jvm.Cond.code ({ cls := "ValleyGuides", name := "take", desc := "(I)I" } : Jvm.MethodName) prog_1_method_54_code (5 : Nat) (Option.some Jvm.ClassFile.FieldType.int)) ∈ lw_all := lw_g (lw_at lw_m6 139 rfl) rfl
theorem q1443 : (Jvm.Cond.instanceMethod ({ cls := "ValleyGuides", name := "go", desc := "(III)I" } : Jvm.MethodName)) ∈ lw_all := lw_g (lw_at lw_m6 141 rfl) rfl
theorem q1444 : (Jvm.Cond.selects "ValleyGuides" ({ cls := "ValleyGuides", name := "go", desc := "(III)I" } : Jvm.MethodName) ({ cls := "ValleyGuides", name := "go", desc := "(III)I" } : Jvm.MethodName)) ∈ lw_all := lw_g (lw_at lw_m6 142 rfl) rfl
theorem q1445 : (Jvm.Cond.code ({ cls := "ValleyGuides", name := "go", desc := "(III)I" } : Jvm.MethodName) prog_1_method_56_code (9 : Nat) (Option.some Jvm.ClassFile.FieldType.int)) ∈ lw_all := lw_g (lw_at lw_m6 143 rfl) rfl
theorem q1446 : (Jvm.Cond.interfaceEntry "ValleyGuides" (447 : Nat)) ∈ lw_tbl := lw_at lw_m6 144 rfl
theorem q1447 : (Jvm.Cond.methodLink "ValleyGuides" (447 : Nat) ({ cls := "java/util/List", name := "remove", desc := "(Ljava/lang/Object;)Z" } : Jvm.MethodName)) ∈ lw_all := lw_g (lw_at lw_m6 145 rfl) rfl
theorem q1461 : (Jvm.Cond.instanceMethod ({ cls := "ValleyGuides", name := "person", desc := "(I)I" } : Jvm.MethodName)) ∈ lw_all := lw_g (lw_at lw_m6 159 rfl) rfl
theorem q1462 : (Jvm.Cond.selects "ValleyGuides" ({ cls := "ValleyGuides", name := "person", desc := "(I)I" } : Jvm.MethodName) ({ cls := "ValleyGuides", name := "person", desc := "(I)I" } : Jvm.MethodName)) ∈ lw_all := lw_g (lw_at lw_m6 160 rfl) rfl
theorem q1463 : (Jvm.Cond.code ({ cls := "ValleyGuides", name := "person", desc := "(I)I" } : Jvm.MethodName) prog_1_method_58_code (2 : Nat) (Option.some Jvm.ClassFile.FieldType.int)) ∈ lw_all := lw_g (lw_at lw_m6 161 rfl) rfl
theorem q1465 : (Jvm.Cond.instanceMethod ({ cls := "ValleyGuides", name := "wish", desc := "(III)I" } : Jvm.MethodName)) ∈ lw_all := lw_g (lw_at lw_m6 163 rfl) rfl
theorem q1466 : (Jvm.Cond.selects "ValleyGuides" ({ cls := "ValleyGuides", name := "wish", desc := "(III)I" } : Jvm.MethodName) ({ cls := "ValleyGuides", name := "wish", desc := "(III)I" } : Jvm.MethodName)) ∈ lw_all := lw_g (lw_at lw_m6 164 rfl) rfl
theorem q1467 : (Jvm.Cond.code ({ cls := "ValleyGuides", name := "wish", desc := "(III)I" } : Jvm.MethodName) prog_1_method_59_code (5 : Nat) (Option.some Jvm.ClassFile.FieldType.int)) ∈ lw_all := lw_g (lw_at lw_m6 165 rfl) rfl
theorem q1468 : (Jvm.Cond.methodLink "ValleyGuides" (453 : Nat) ({ cls := "ValleyGuides", name := "isPerson", desc := "(I)Z" } : Jvm.MethodName)) ∈ lw_all := lw_g (lw_at lw_m6 166 rfl) rfl
theorem q1469 : (Jvm.Cond.privateMethod ({ cls := "ValleyGuides", name := "isPerson", desc := "(I)Z" } : Jvm.MethodName)) ∈ lw_tbl := lw_at lw_m6 167 rfl
theorem q1470 : (Jvm.Cond.instanceMethod ({ cls := "ValleyGuides", name := "isPerson", desc := "(I)Z" } : Jvm.MethodName)) ∈ lw_all := lw_g (lw_at lw_m6 168 rfl) rfl
theorem q1471 : (Jvm.Cond.code ({ cls := "ValleyGuides", name := "isPerson", desc := "(I)Z" } : Jvm.MethodName) prog_1_method_57_code (2 : Nat) (Option.some Jvm.ClassFile.FieldType.boolean)) ∈ lw_all := lw_g (lw_at lw_m6 169 rfl) rfl
theorem q1472 : (Jvm.Cond.constantLong "ValleyGuides" (456 : Nat) (-9 : Int64)) ∈ lw_all := lw_g (lw_at lw_m6 170 rfl) rfl
theorem q1474 : (Jvm.Cond.instanceMethod ({ cls := "ValleyGuides", name := "roping", desc := "(II)I" } : Jvm.MethodName)) ∈ lw_all := lw_g (lw_at lw_m6 172 rfl) rfl
theorem q1475 : (Jvm.Cond.selects "ValleyGuides" ({ cls := "ValleyGuides", name := "roping", desc := "(II)I" } : Jvm.MethodName) ({ cls := "ValleyGuides", name := "roping", desc := "(II)I" } : Jvm.MethodName)) ∈ lw_all := lw_g (lw_at lw_m6 173 rfl) rfl
theorem q1476 : (Jvm.Cond.code ({ cls := "ValleyGuides", name := "roping", desc := "(II)I" } : Jvm.MethodName) prog_1_method_64_code (7 : Nat) (Option.some Jvm.ClassFile.FieldType.int)) ∈ lw_all := lw_g (lw_at lw_m6 174 rfl) rfl
theorem q1477 : (Jvm.Cond.constantLong "ValleyGuides" (474 : Nat) (30 : Int64)) ∈ lw_all := lw_g (lw_at lw_m6 175 rfl) rfl
theorem q1478 : (Jvm.Cond.methodLink "ValleyGuides" (476 : Nat) ({ cls := "ValleyGuides", name := "layRopes", desc := "(I)V" } : Jvm.MethodName)) ∈ lw_all := lw_g (lw_at lw_m6 176 rfl) rfl
theorem q1479 : (Jvm.Cond.privateMethod ({ cls := "ValleyGuides", name := "layRopes", desc := "(I)V" } : Jvm.MethodName)) ∈ lw_tbl := lw_at lw_m6 177 rfl
theorem q1480 : (Jvm.Cond.instanceMethod ({ cls := "ValleyGuides", name := "layRopes", desc := "(I)V" } : Jvm.MethodName)) ∈ lw_all := lw_g (lw_at lw_m6 178 rfl) rfl
theorem q1481 : (Jvm.Cond.code ({ cls := "ValleyGuides", name := "layRopes", desc := "(I)V" } : Jvm.MethodName) prog_1_method_63_code (5 : Nat) (Option.none : Option Jvm.ClassFile.FieldType)) ∈ lw_all := lw_g (lw_at lw_m6 179 rfl) rfl
theorem q1482 : (Jvm.Cond.constant "ValleyGuides" (467 : Nat) (-2147483648 : Int32)) ∈ lw_all := lw_g (lw_at lw_m6 180 rfl) rfl
theorem q1483 : (Jvm.Cond.methodLink "ValleyGuides" (468 : Nat) ({ cls := "ValleyGuides", name := "canRope", desc := "(III)Z" } : Jvm.MethodName)) ∈ lw_all := lw_g (lw_at lw_m6 181 rfl) rfl
theorem q1484 : (Jvm.Cond.privateMethod ({ cls := "ValleyGuides", name := "canRope", desc := "(III)Z" } : Jvm.MethodName)) ∈ lw_tbl := lw_at lw_m6 182 rfl
theorem q1485 : (Jvm.Cond.instanceMethod ({ cls := "ValleyGuides", name := "canRope", desc := "(III)Z" } : Jvm.MethodName)) ∈ lw_all := lw_g (lw_at lw_m6 183 rfl) rfl
theorem q1486 : (Jvm.Cond.code ({ cls := "ValleyGuides", name := "canRope", desc := "(III)Z" } : Jvm.MethodName) prog_1_method_62_code (5 : Nat) (Option.some Jvm.ClassFile.FieldType.boolean)) ∈ lw_all := lw_g (lw_at lw_m6 184 rfl) rfl
theorem q1487 : (Jvm.Cond.methodLink "ValleyGuides" (458 : Nat) ({ cls := "java/lang/Integer", name := "lowestOneBit", desc := "(I)I" } : Jvm.MethodName)) ∈ lw_all := lw_g (lw_at lw_m6 185 rfl) rfl
theorem q1490 : (Jvm.Cond.methodLink "ValleyGuides" (461 : Nat) ({ cls := "java/lang/Integer", name := "bitCount", desc := "(I)I" } : Jvm.MethodName)) ∈ lw_all := lw_g (lw_at lw_m6 188 rfl) rfl
theorem q1496 : (Jvm.Cond.methodLink "ValleyGuides" (464 : Nat) ({ cls := "ValleyGuides", name := "strengthOf", desc := "(I)I" } : Jvm.MethodName)) ∈ lw_all := lw_g (lw_at lw_m6 194 rfl) rfl
theorem q1497 : (Jvm.Cond.privateMethod ({ cls := "ValleyGuides", name := "strengthOf", desc := "(I)I" } : Jvm.MethodName)) ∈ lw_tbl := lw_at lw_m6 195 rfl
theorem q1498 : (Jvm.Cond.instanceMethod ({ cls := "ValleyGuides", name := "strengthOf", desc := "(I)I" } : Jvm.MethodName)) ∈ lw_all := lw_g (lw_at lw_m6 196 rfl) rfl
theorem q1499 : (Jvm.Cond.code ({ cls := "ValleyGuides", name := "strengthOf", desc := "(I)I" } : Jvm.MethodName) prog_1_method_60_code (4 : Nat) (Option.some Jvm.ClassFile.FieldType.int)) ∈ lw_all := lw_g (lw_at lw_m6 197 rfl) rfl
theorem q1500 : (Jvm.Cond.methodLink "ValleyGuides" (471 : Nat) ({ cls := "ValleyGuides", name := "worthOf", desc := "(I)I" } : Jvm.MethodName)) ∈ lw_all := lw_g (lw_at lw_m6 198 rfl) rfl
theorem q1501 : (Jvm.Cond.privateMethod ({ cls := "ValleyGuides", name := "worthOf", desc := "(I)I" } : Jvm.MethodName)) ∈ lw_tbl := lw_at lw_m6 199 rfl
theorem q1502 : (Jvm.Cond.instanceMethod ({ cls := "ValleyGuides", name := "worthOf", desc := "(I)I" } : Jvm.MethodName)) ∈ lw_all := lw_g (lw_at lw_m6 200 rfl) rfl
theorem q1503 : (Jvm.Cond.code ({ cls := "ValleyGuides", name := "worthOf", desc := "(I)I" } : Jvm.MethodName) prog_1_method_61_code (5 : Nat) (Option.some Jvm.ClassFile.FieldType.int)) ∈ lw_all := lw_g (lw_at lw_m6 201 rfl) rfl
theorem q1505 : (Jvm.Cond.instanceMethod ({ cls := "ValleyGuides", name := "rope", desc := "(IIII)I" } : Jvm.MethodName)) ∈ lw_all := lw_g (lw_at lw_m6 203 rfl) rfl
theorem q1506 : (Jvm.Cond.selects "ValleyGuides" ({ cls := "ValleyGuides", name := "rope", desc := "(IIII)I" } : Jvm.MethodName) ({ cls := "ValleyGuides", name := "rope", desc := "(IIII)I" } : Jvm.MethodName)) ∈ lw_all := lw_g (lw_at lw_m6 204 rfl) rfl
theorem q1507 : (Jvm.Cond.code ({ cls := "ValleyGuides", name := "rope", desc := "(IIII)I" } : Jvm.MethodName) prog_1_method_66_code (5 : Nat) (Option.some Jvm.ClassFile.FieldType.int)) ∈ lw_all := lw_g (lw_at lw_m6 205 rfl) rfl
theorem q1509 : (Jvm.Cond.methodLink "ValleyGuides" (482 : Nat) ({ cls := "ValleyGuides$Rope", name := "<init>", desc := "(LValleyGuides$Route;III)V" } : Jvm.MethodName)) ∈ lw_all := lw_g (lw_at lw_m6 207 rfl) rfl
theorem q1514 : (Jvm.Cond.fieldLinkNest "ValleyGuides" (509 : Nat) "ValleyGuides$Rope" "route" "LValleyGuides$Route;" "ValleyGuides") ∈ lw_tbl := lw_at lw_m6 212 rfl
theorem q1516 : (Jvm.Cond.fieldLinkNest "ValleyGuides" (517 : Nat) "ValleyGuides$Rope" "strength" "I" "ValleyGuides") ∈ lw_tbl := lw_at lw_m6 214 rfl
theorem q1518 : (Jvm.Cond.fieldLinkNest "ValleyGuides" (492 : Nat) "ValleyGuides$Rope" "start" "I" "ValleyGuides") ∈ lw_tbl := lw_at lw_m6 216 rfl
theorem q1520 : (Jvm.Cond.fieldLinkNest "ValleyGuides" (505 : Nat) "ValleyGuides$Rope" "people" "I" "ValleyGuides") ∈ lw_tbl := lw_at lw_m6 218 rfl
theorem q1522 : (Jvm.Cond.fieldLinkNest "ValleyGuides" (496 : Nat) "ValleyGuides$Rope" "next" "I" "ValleyGuides") ∈ lw_tbl := lw_at lw_m6 220 rfl
theorem q1524 : (Jvm.Cond.fieldLinkNest "ValleyGuides" (495 : Nat) "ValleyGuides$Rope" "place" "I" "ValleyGuides") ∈ lw_tbl := lw_at lw_m6 222 rfl
theorem q1526 : (Jvm.Cond.fieldLinkNest "ValleyGuides" (499 : Nat) "ValleyGuides$Rope" "came" "I" "ValleyGuides") ∈ lw_tbl := lw_at lw_m6 224 rfl
theorem q1528 : (Jvm.Cond.fieldLinkNest "ValleyGuides" (485 : Nat) "ValleyGuides$Rope" "on" "LValleyGuides$Step;" "ValleyGuides") ∈ lw_tbl := lw_at lw_m6 226 rfl
theorem q1529 : (Jvm.Cond.fieldLinkNest "ValleyGuides" (489 : Nat) "ValleyGuides$Rope" "until" "I" "ValleyGuides") ∈ lw_tbl := lw_at lw_m6 227 rfl
theorem q1531 : (Jvm.Cond.fieldLinkNest "ValleyGuides" (502 : Nat) "ValleyGuides$Rope" "done" "I" "ValleyGuides") ∈ lw_tbl := lw_at lw_m6 229 rfl
theorem q1533 : (Jvm.Cond.fieldLinkNest "ValleyGuides" (518 : Nat) "ValleyGuides$Rope" "hasTurned" "Z" "ValleyGuides") ∈ lw_tbl := lw_at lw_m6 231 rfl
theorem q1535 : (Jvm.Cond.fieldLinkNest "ValleyGuides" (525 : Nat) "ValleyGuides$Rope" "waited" "I" "ValleyGuides") ∈ lw_tbl := lw_at lw_m6 233 rfl
theorem q1537 : (Jvm.Cond.fieldLinkNest "ValleyGuides" (506 : Nat) "ValleyGuides$Rope" "bedded" "I" "ValleyGuides") ∈ lw_tbl := lw_at lw_m6 235 rfl
theorem q1539 : (Jvm.Cond.fieldLinkNest "ValleyGuides" (541 : Nat) "ValleyGuides$Rope" "where" "[I" "ValleyGuides") ∈ lw_tbl := lw_at lw_m6 237 rfl
theorem q1570 : (Jvm.Cond.instanceMethod ({ cls := "ValleyGuides", name := "unrope", desc := "()I" } : Jvm.MethodName)) ∈ lw_all := lw_g (lw_at lw_m7 28 rfl) rfl
theorem q1571 : (Jvm.Cond.selects "ValleyGuides" ({ cls := "ValleyGuides", name := "unrope", desc := "()I" } : Jvm.MethodName) ({ cls := "ValleyGuides", name := "unrope", desc := "()I" } : Jvm.MethodName)) ∈ lw_all := lw_g (lw_at lw_m7 29 rfl) rfl
theorem q1572 : (Jvm.Cond.code ({ cls := "ValleyGuides", name := "unrope", desc := "()I" } : Jvm.MethodName) prog_1_method_67_code (1 : Nat) (Option.some Jvm.ClassFile.FieldType.int)) ∈ lw_all := lw_g (lw_at lw_m7 30 rfl) rfl
theorem q1574 : (Jvm.Cond.instanceMethod ({ cls := "ValleyGuides", name := "went", desc := "(II)I" } : Jvm.MethodName)) ∈ lw_all := lw_g (lw_at lw_m7 32 rfl) rfl
theorem q1575 : (Jvm.Cond.selects "ValleyGuides" ({ cls := "ValleyGuides", name := "went", desc := "(II)I" } : Jvm.MethodName) ({ cls := "ValleyGuides", name := "went", desc := "(II)I" } : Jvm.MethodName)) ∈ lw_all := lw_g (lw_at lw_m7 33 rfl) rfl
theorem q1576 : (Jvm.Cond.code ({ cls := "ValleyGuides", name := "went", desc := "(II)I" } : Jvm.MethodName) prog_1_method_73_code (4 : Nat) (Option.some Jvm.ClassFile.FieldType.int)) ∈ lw_all := lw_g (lw_at lw_m7 34 rfl) rfl
theorem q1577 : (Jvm.Cond.methodLink "ValleyGuides" (544 : Nat) ({ cls := "ValleyGuides", name := "isRope", desc := "(I)Z" } : Jvm.MethodName)) ∈ lw_all := lw_g (lw_at lw_m7 35 rfl) rfl
theorem q1578 : (Jvm.Cond.privateMethod ({ cls := "ValleyGuides", name := "isRope", desc := "(I)Z" } : Jvm.MethodName)) ∈ lw_tbl := lw_at lw_m7 36 rfl
theorem q1579 : (Jvm.Cond.instanceMethod ({ cls := "ValleyGuides", name := "isRope", desc := "(I)Z" } : Jvm.MethodName)) ∈ lw_all := lw_g (lw_at lw_m7 37 rfl) rfl
theorem q1580 : (Jvm.Cond.code ({ cls := "ValleyGuides", name := "isRope", desc := "(I)Z" } : Jvm.MethodName) prog_1_method_65_code (2 : Nat) (Option.some Jvm.ClassFile.FieldType.boolean)) ∈ lw_all := lw_g (lw_at lw_m7 38 rfl) rfl
theorem q1581 : (Jvm.Cond.methodLink "ValleyGuides" (547 : Nat) ({ cls := "ValleyGuides", name := "play", desc := "()V" } : Jvm.MethodName)) ∈ lw_all := lw_g (lw_at lw_m7 39 rfl) rfl
theorem q1582 : (Jvm.Cond.privateMethod ({ cls := "ValleyGuides", name := "play", desc := "()V" } : Jvm.MethodName)) ∈ lw_tbl := lw_at lw_m7 40 rfl
theorem q1583 : (Jvm.Cond.instanceMethod ({ cls := "ValleyGuides", name := "play", desc := "()V" } : Jvm.MethodName)) ∈ lw_all := lw_g (lw_at lw_m7 41 rfl) rfl
theorem q1584 : (Jvm.Cond.code ({ cls := "ValleyGuides", name := "play", desc := "()V" } : Jvm.MethodName) prog_1_method_72_code (4 : Nat) (Option.none : Option Jvm.ClassFile.FieldType)) ∈ lw_all := lw_g (lw_at lw_m7 42 rfl) rfl
theorem q1585 : (Jvm.Cond.methodLink "ValleyGuides" (528 : Nat) ({ cls := "ValleyGuides$Rope", name := "begin", desc := "()V" } : Jvm.MethodName)) ∈ lw_all := lw_g (lw_at lw_m7 43 rfl) rfl
theorem q1590 : (Jvm.Cond.methodLink "ValleyGuides" (531 : Nat) ({ cls := "ValleyGuides", name := "arrive", desc := "(I)V" } : Jvm.MethodName)) ∈ lw_all := lw_g (lw_at lw_m7 48 rfl) rfl
theorem q1591 : (Jvm.Cond.privateMethod ({ cls := "ValleyGuides", name := "arrive", desc := "(I)V" } : Jvm.MethodName)) ∈ lw_tbl := lw_at lw_m7 49 rfl
theorem q1592 : (Jvm.Cond.instanceMethod ({ cls := "ValleyGuides", name := "arrive", desc := "(I)V" } : Jvm.MethodName)) ∈ lw_all := lw_g (lw_at lw_m7 50 rfl) rfl
theorem q1593 : (Jvm.Cond.code ({ cls := "ValleyGuides", name := "arrive", desc := "(I)V" } : Jvm.MethodName) prog_1_method_69_code (5 : Nat) (Option.none : Option Jvm.ClassFile.FieldType)) ∈ lw_all := lw_g (lw_at lw_m7 51 rfl) rfl
theorem q1594 : (Jvm.Cond.methodLink "ValleyGuides" (534 : Nat) ({ cls := "ValleyGuides$Rope", name := "isWaiting", desc := "()Z" } : Jvm.MethodName)) ∈ lw_all := lw_g (lw_at lw_m7 52 rfl) rfl
theorem q1598 : (Jvm.Cond.methodLink "ValleyGuides" (538 : Nat) ({ cls := "ValleyGuides", name := "decide", desc := "(LValleyGuides$Rope;I)V" } : Jvm.MethodName)) ∈ lw_all := lw_g (lw_at lw_m7 56 rfl) rfl
theorem q1599 : (Jvm.Cond.privateMethod ({ cls := "ValleyGuides", name := "decide", desc := "(LValleyGuides$Rope;I)V" } : Jvm.MethodName)) ∈ lw_tbl := lw_at lw_m7 57 rfl
theorem q1600 : (Jvm.Cond.instanceMethod ({ cls := "ValleyGuides", name := "decide", desc := "(LValleyGuides$Rope;I)V" } : Jvm.MethodName)) ∈ lw_all := lw_g (lw_at lw_m7 58 rfl) rfl
theorem q1601 : (Jvm.Cond.code ({ cls := "ValleyGuides", name := "decide", desc := "(LValleyGuides$Rope;I)V" } : Jvm.MethodName) prog_1_method_71_code (5 : Nat) (Option.none : Option Jvm.ClassFile.FieldType)) ∈ lw_all := lw_g (lw_at lw_m7 59 rfl) rfl
theorem q1602 : (Jvm.Cond.methodLink "ValleyGuides" (513 : Nat) ({ cls := "ValleyGuides", name := "finish", desc := "(LValleyGuides$Rope;I)V" } : Jvm.MethodName)) ∈ lw_all := lw_g (lw_at lw_m7 60 rfl) rfl
theorem q1603 : (Jvm.Cond.privateMethod ({ cls := "ValleyGuides", name := "finish", desc := "(LValleyGuides$Rope;I)V" } : Jvm.MethodName)) ∈ lw_tbl := lw_at lw_m7 61 rfl
theorem q1604 : (Jvm.Cond.instanceMethod ({ cls := "ValleyGuides", name := "finish", desc := "(LValleyGuides$Rope;I)V" } : Jvm.MethodName)) ∈ lw_all := lw_g (lw_at lw_m7 62 rfl) rfl
theorem q1605 : (Jvm.Cond.code ({ cls := "ValleyGuides", name := "finish", desc := "(LValleyGuides$Rope;I)V" } : Jvm.MethodName) prog_1_method_70_code (3 : Nat) (Option.none : Option Jvm.ClassFile.FieldType)) ∈ lw_all := lw_g (lw_at lw_m7 63 rfl) rfl
theorem q1606 : (Jvm.Cond.methodLink "ValleyGuides" (521 : Nat) ({ cls := "ValleyGuides", name := "isTaken", desc := "(LValleyGuides$Step;)Z" } : Jvm.MethodName)) ∈ lw_all := lw_g (lw_at lw_m7 64 rfl) rfl
theorem q1607 : (Jvm.Cond.privateMethod ({ cls := "ValleyGuides", name := "isTaken", desc := "(LValleyGuides$Step;)Z" } : Jvm.MethodName)) ∈ lw_tbl := lw_at lw_m7 65 rfl
theorem q1608 : (Jvm.Cond.instanceMethod ({ cls := "ValleyGuides", name := "isTaken", desc := "(LValleyGuides$Step;)Z" } : Jvm.MethodName)) ∈ lw_all := lw_g (lw_at lw_m7 66 rfl) rfl
theorem q1609 : (Jvm.Cond.code ({ cls := "ValleyGuides", name := "isTaken", desc := "(LValleyGuides$Step;)Z" } : Jvm.MethodName) prog_1_method_68_code (4 : Nat) (Option.some Jvm.ClassFile.FieldType.boolean)) ∈ lw_all := lw_g (lw_at lw_m7 67 rfl) rfl
theorem q1611 : (Jvm.Cond.instanceMethod ({ cls := "ValleyGuides", name := "stayed", desc := "(II)I" } : Jvm.MethodName)) ∈ lw_all := lw_g (lw_at lw_m7 69 rfl) rfl
theorem q1612 : (Jvm.Cond.selects "ValleyGuides" ({ cls := "ValleyGuides", name := "stayed", desc := "(II)I" } : Jvm.MethodName) ({ cls := "ValleyGuides", name := "stayed", desc := "(II)I" } : Jvm.MethodName)) ∈ lw_all := lw_g (lw_at lw_m7 70 rfl) rfl
theorem q1613 : (Jvm.Cond.code ({ cls := "ValleyGuides", name := "stayed", desc := "(II)I" } : Jvm.MethodName) prog_1_method_74_code (3 : Nat) (Option.some Jvm.ClassFile.FieldType.int)) ∈ lw_all := lw_g (lw_at lw_m7 71 rfl) rfl
theorem q1615 : (Jvm.Cond.instanceMethod ({ cls := "ValleyGuides", name := "at", desc := "(II)I" } : Jvm.MethodName)) ∈ lw_all := lw_g (lw_at lw_m7 73 rfl) rfl
theorem q1616 : (Jvm.Cond.selects "ValleyGuides" ({ cls := "ValleyGuides", name := "at", desc := "(II)I" } : Jvm.MethodName) ({ cls := "ValleyGuides", name := "at", desc := "(II)I" } : Jvm.MethodName)) ∈ lw_all := lw_g (lw_at lw_m7 74 rfl) rfl
theorem q1617 : (Jvm.Cond.code ({ cls := "ValleyGuides", name := "at", desc := "(II)I" } : Jvm.MethodName) prog_1_method_75_code (3 : Nat) (Option.some Jvm.ClassFile.FieldType.int)) ∈ lw_all := lw_g (lw_at lw_m7 75 rfl) rfl
theorem q1619 : (Jvm.Cond.instanceMethod ({ cls := "ValleyGuides", name := "near", desc := "(III)I" } : Jvm.MethodName)) ∈ lw_all := lw_g (lw_at lw_m7 77 rfl) rfl
theorem q1620 : (Jvm.Cond.selects "ValleyGuides" ({ cls := "ValleyGuides", name := "near", desc := "(III)I" } : Jvm.MethodName) ({ cls := "ValleyGuides", name := "near", desc := "(III)I" } : Jvm.MethodName)) ∈ lw_all := lw_g (lw_at lw_m7 78 rfl) rfl
theorem q1621 : (Jvm.Cond.code ({ cls := "ValleyGuides", name := "near", desc := "(III)I" } : Jvm.MethodName) prog_1_method_76_code (8 : Nat) (Option.some Jvm.ClassFile.FieldType.int)) ∈ lw_all := lw_g (lw_at lw_m7 79 rfl) rfl
theorem q1622 : (Jvm.Cond.constantLong "ValleyGuides" (550 : Nat) (11 : Int64)) ∈ lw_all := lw_g (lw_at lw_m7 80 rfl) rfl
theorem q1624 : (Jvm.Cond.instanceMethod ({ cls := "ValleyGuides", name := "entry", desc := "(III)I" } : Jvm.MethodName)) ∈ lw_all := lw_g (lw_at lw_m7 82 rfl) rfl
theorem q1625 : (Jvm.Cond.selects "ValleyGuides" ({ cls := "ValleyGuides", name := "entry", desc := "(III)I" } : Jvm.MethodName) ({ cls := "ValleyGuides", name := "entry", desc := "(III)I" } : Jvm.MethodName)) ∈ lw_all := lw_g (lw_at lw_m7 83 rfl) rfl
theorem q1626 : (Jvm.Cond.code ({ cls := "ValleyGuides", name := "entry", desc := "(III)I" } : Jvm.MethodName) prog_1_method_77_code (4 : Nat) (Option.some Jvm.ClassFile.FieldType.int)) ∈ lw_all := lw_g (lw_at lw_m7 84 rfl) rfl
theorem q1628 : (Jvm.Cond.instanceMethod ({ cls := "ValleyGuides", name := "grade", desc := "(III)J" } : Jvm.MethodName)) ∈ lw_all := lw_g (lw_at lw_m7 86 rfl) rfl
theorem q1629 : (Jvm.Cond.selects "ValleyGuides" ({ cls := "ValleyGuides", name := "grade", desc := "(III)J" } : Jvm.MethodName) ({ cls := "ValleyGuides", name := "grade", desc := "(III)J" } : Jvm.MethodName)) ∈ lw_all := lw_g (lw_at lw_m7 87 rfl) rfl
theorem q1630 : (Jvm.Cond.code ({ cls := "ValleyGuides", name := "grade", desc := "(III)J" } : Jvm.MethodName) prog_1_method_82_code (5 : Nat) (Option.some Jvm.ClassFile.FieldType.long)) ∈ lw_all := lw_g (lw_at lw_m7 88 rfl) rfl
theorem q1631 : (Jvm.Cond.constantLong "ValleyGuides" (567 : Nat) (-1000000000000 : Int64)) ∈ lw_all := lw_g (lw_at lw_m7 89 rfl) rfl
theorem q1632 : (Jvm.Cond.methodLink "ValleyGuides" (555 : Nat) ({ cls := "ValleyGuides", name := "layPieces", desc := "()V" } : Jvm.MethodName)) ∈ lw_all := lw_g (lw_at lw_m7 90 rfl) rfl
theorem q1633 : (Jvm.Cond.privateMethod ({ cls := "ValleyGuides", name := "layPieces", desc := "()V" } : Jvm.MethodName)) ∈ lw_tbl := lw_at lw_m7 91 rfl
theorem q1634 : (Jvm.Cond.instanceMethod ({ cls := "ValleyGuides", name := "layPieces", desc := "()V" } : Jvm.MethodName)) ∈ lw_all := lw_g (lw_at lw_m7 92 rfl) rfl
theorem q1635 : (Jvm.Cond.code ({ cls := "ValleyGuides", name := "layPieces", desc := "()V" } : Jvm.MethodName) prog_1_method_78_code (4 : Nat) (Option.none : Option Jvm.ClassFile.FieldType)) ∈ lw_all := lw_g (lw_at lw_m7 93 rfl) rfl
theorem q1636 : (Jvm.Cond.constantLong "ValleyGuides" (569 : Nat) (-1000000000004 : Int64)) ∈ lw_all := lw_g (lw_at lw_m7 94 rfl) rfl
theorem q1637 : (Jvm.Cond.methodLink "ValleyGuides" (571 : Nat) ({ cls := "ValleyGuides", name := "solve", desc := "(I)V" } : Jvm.MethodName)) ∈ lw_all := lw_g (lw_at lw_m7 95 rfl) rfl
theorem q1638 : (Jvm.Cond.privateMethod ({ cls := "ValleyGuides", name := "solve", desc := "(I)V" } : Jvm.MethodName)) ∈ lw_tbl := lw_at lw_m7 96 rfl
theorem q1639 : (Jvm.Cond.instanceMethod ({ cls := "ValleyGuides", name := "solve", desc := "(I)V" } : Jvm.MethodName)) ∈ lw_all := lw_g (lw_at lw_m7 97 rfl) rfl
theorem q1640 : (Jvm.Cond.code ({ cls := "ValleyGuides", name := "solve", desc := "(I)V" } : Jvm.MethodName) prog_1_method_79_code (11 : Nat) (Option.none : Option Jvm.ClassFile.FieldType)) ∈ lw_all := lw_g (lw_at lw_m7 98 rfl) rfl
theorem q1641 : (Jvm.Cond.classLink "ValleyGuides" (558 : Nat) "[[J") ∈ lw_all := lw_g (lw_at lw_m7 99 rfl) rfl
theorem q1642 : (Jvm.Cond.methodLink "ValleyGuides" (574 : Nat) ({ cls := "ValleyGuides", name := "part", desc := "(I)J" } : Jvm.MethodName)) ∈ lw_all := lw_g (lw_at lw_m7 100 rfl) rfl
theorem q1643 : (Jvm.Cond.privateMethod ({ cls := "ValleyGuides", name := "part", desc := "(I)J" } : Jvm.MethodName)) ∈ lw_tbl := lw_at lw_m7 101 rfl
theorem q1644 : (Jvm.Cond.instanceMethod ({ cls := "ValleyGuides", name := "part", desc := "(I)J" } : Jvm.MethodName)) ∈ lw_all := lw_g (lw_at lw_m7 102 rfl) rfl
theorem q1645 : (Jvm.Cond.code ({ cls := "ValleyGuides", name := "part", desc := "(I)J" } : Jvm.MethodName) prog_1_method_80_code (2 : Nat) (Option.some Jvm.ClassFile.FieldType.long)) ∈ lw_all := lw_g (lw_at lw_m7 103 rfl) rfl
theorem q1646 : (Jvm.Cond.methodLink "ValleyGuides" (577 : Nat) ({ cls := "ValleyGuides", name := "lowest", desc := "(JJI)J" } : Jvm.MethodName)) ∈ lw_all := lw_g (lw_at lw_m7 104 rfl) rfl
theorem q1647 : (Jvm.Cond.static ({ cls := "ValleyGuides", name := "lowest", desc := "(JJI)J" } : Jvm.MethodName)) ∈ lw_all := lw_g (lw_at lw_m7 105 rfl) rfl
theorem q1648 : (Jvm.Cond.code ({ cls := "ValleyGuides", name := "lowest", desc := "(JJI)J" } : Jvm.MethodName) prog_1_method_81_code (11 : Nat) (Option.some Jvm.ClassFile.FieldType.long)) ∈ lw_all := lw_g (lw_at lw_m7 106 rfl) rfl
theorem q1649 : (Jvm.Cond.methodLink "ValleyGuides" (563 : Nat) ({ cls := "java/lang/Math", name := "abs", desc := "(J)J" } : Jvm.MethodName)) ∈ lw_all := lw_g (lw_at lw_m7 107 rfl) rfl
theorem q1654 : (Jvm.Cond.instanceMethod ({ cls := "ValleyGuides", name := "over", desc := "(II)J" } : Jvm.MethodName)) ∈ lw_all := lw_g (lw_at lw_m7 112 rfl) rfl
theorem q1655 : (Jvm.Cond.selects "ValleyGuides" ({ cls := "ValleyGuides", name := "over", desc := "(II)J" } : Jvm.MethodName) ({ cls := "ValleyGuides", name := "over", desc := "(II)J" } : Jvm.MethodName)) ∈ lw_all := lw_g (lw_at lw_m7 113 rfl) rfl
theorem q1656 : (Jvm.Cond.code ({ cls := "ValleyGuides", name := "over", desc := "(II)J" } : Jvm.MethodName) prog_1_method_83_code (3 : Nat) (Option.some Jvm.ClassFile.FieldType.long)) ∈ lw_all := lw_g (lw_at lw_m7 114 rfl) rfl
theorem q1658 : (Jvm.Cond.instanceMethod ({ cls := "ValleyGuides", name := "pieces", desc := "()I" } : Jvm.MethodName)) ∈ lw_all := lw_g (lw_at lw_m7 116 rfl) rfl
theorem q1659 : (Jvm.Cond.selects "ValleyGuides" ({ cls := "ValleyGuides", name := "pieces", desc := "()I" } : Jvm.MethodName) ({ cls := "ValleyGuides", name := "pieces", desc := "()I" } : Jvm.MethodName)) ∈ lw_all := lw_g (lw_at lw_m7 117 rfl) rfl
theorem q1660 : (Jvm.Cond.code ({ cls := "ValleyGuides", name := "pieces", desc := "()I" } : Jvm.MethodName) prog_1_method_84_code (3 : Nat) (Option.some Jvm.ClassFile.FieldType.int)) ∈ lw_all := lw_g (lw_at lw_m7 118 rfl) rfl
theorem q1662 : (Jvm.Cond.instanceMethod ({ cls := "ValleyGuides", name := "give", desc := "(I)I" } : Jvm.MethodName)) ∈ lw_all := lw_g (lw_at lw_m7 120 rfl) rfl
theorem q1663 : (Jvm.Cond.selects "ValleyGuides" ({ cls := "ValleyGuides", name := "give", desc := "(I)I" } : Jvm.MethodName) ({ cls := "ValleyGuides", name := "give", desc := "(I)I" } : Jvm.MethodName)) ∈ lw_all := lw_g (lw_at lw_m7 121 rfl) rfl
theorem q1664 : (Jvm.Cond.code ({ cls := "ValleyGuides", name := "give", desc := "(I)I" } : Jvm.MethodName) prog_1_method_85_code (2 : Nat) (Option.some Jvm.ClassFile.FieldType.int)) ∈ lw_all := lw_g (lw_at lw_m7 122 rfl) rfl
theorem q1665 : (Jvm.Cond.constantLong "ValleyGuides" (581 : Nat) (100000 : Int64)) ∈ lw_all := lw_g (lw_at lw_m7 123 rfl) rfl
theorem q1666 : (Jvm.Cond.constant "ValleyGuides" (583 : Nat) (1000000000 : Int32)) ∈ lw_all := lw_g (lw_at lw_m7 124 rfl) rfl
theorem q1668 : (Jvm.Cond.instanceMethod ({ cls := "ValleyGuides", name := "share", desc := "(I)I" } : Jvm.MethodName)) ∈ lw_all := lw_g (lw_at lw_m7 126 rfl) rfl
theorem q1669 : (Jvm.Cond.selects "ValleyGuides" ({ cls := "ValleyGuides", name := "share", desc := "(I)I" } : Jvm.MethodName) ({ cls := "ValleyGuides", name := "share", desc := "(I)I" } : Jvm.MethodName)) ∈ lw_all := lw_g (lw_at lw_m7 127 rfl) rfl
theorem q1670 : (Jvm.Cond.code ({ cls := "ValleyGuides", name := "share", desc := "(I)I" } : Jvm.MethodName) prog_1_method_86_code (4 : Nat) (Option.some Jvm.ClassFile.FieldType.int)) ∈ lw_all := lw_g (lw_at lw_m7 128 rfl) rfl
theorem q1672 : (Jvm.Cond.instanceMethod ({ cls := "ValleyGuides", name := "image", desc := "()I" } : Jvm.MethodName)) ∈ lw_all := lw_g (lw_at lw_m7 130 rfl) rfl
theorem q1673 : (Jvm.Cond.selects "ValleyGuides" ({ cls := "ValleyGuides", name := "image", desc := "()I" } : Jvm.MethodName) ({ cls := "ValleyGuides", name := "image", desc := "()I" } : Jvm.MethodName)) ∈ lw_all := lw_g (lw_at lw_m7 131 rfl) rfl
theorem q1674 : (Jvm.Cond.code ({ cls := "ValleyGuides", name := "image", desc := "()I" } : Jvm.MethodName) prog_1_method_87_code (2 : Nat) (Option.some Jvm.ClassFile.FieldType.int)) ∈ lw_all := lw_g (lw_at lw_m7 132 rfl) rfl
theorem q1676 : (Jvm.Cond.instanceMethod ({ cls := "ValleyGuides", name := "back", desc := "()I" } : Jvm.MethodName)) ∈ lw_all := lw_g (lw_at lw_m7 134 rfl) rfl
theorem q1677 : (Jvm.Cond.selects "ValleyGuides" ({ cls := "ValleyGuides", name := "back", desc := "()I" } : Jvm.MethodName) ({ cls := "ValleyGuides", name := "back", desc := "()I" } : Jvm.MethodName)) ∈ lw_all := lw_g (lw_at lw_m7 135 rfl) rfl
theorem q1678 : (Jvm.Cond.code ({ cls := "ValleyGuides", name := "back", desc := "()I" } : Jvm.MethodName) prog_1_method_88_code (3 : Nat) (Option.some Jvm.ClassFile.FieldType.int)) ∈ lw_all := lw_g (lw_at lw_m7 136 rfl) rfl
theorem q1679 : (Jvm.Cond.interfaceEntry "ValleyGuides" (601 : Nat)) ∈ lw_tbl := lw_at lw_m7 137 rfl
theorem q1680 : (Jvm.Cond.methodLink "ValleyGuides" (601 : Nat) ({ cls := "java/util/List", name := "clear", desc := "()V" } : Jvm.MethodName)) ∈ lw_all := lw_g (lw_at lw_m7 138 rfl) rfl
theorem q1689 : (Jvm.Cond.instanceMethod ({ cls := "ValleyGuides", name := "count", desc := "(I)I" } : Jvm.MethodName)) ∈ lw_all := lw_g (lw_at lw_m7 147 rfl) rfl
theorem q1690 : (Jvm.Cond.selects "ValleyGuides" ({ cls := "ValleyGuides", name := "count", desc := "(I)I" } : Jvm.MethodName) ({ cls := "ValleyGuides", name := "count", desc := "(I)I" } : Jvm.MethodName)) ∈ lw_all := lw_g (lw_at lw_m7 148 rfl) rfl
theorem q1691 : (Jvm.Cond.code ({ cls := "ValleyGuides", name := "count", desc := "(I)I" } : Jvm.MethodName) prog_1_method_89_code (4 : Nat) (Option.some Jvm.ClassFile.FieldType.int)) ∈ lw_all := lw_g (lw_at lw_m7 149 rfl) rfl
theorem q2426 : (Jvm.Cond.castable "ValleyGuides" "java/lang/Object") ∈ lw_tbl := lw_at lw_m10 164 rfl
theorem q2470 : (Jvm.Cond.stringRef "ValleyGuides" (606 : Nat) "bar") ∈ lw_tbl := lw_at lw_m10 208 rfl
theorem q2471 : (Jvm.Cond.stringRef "ValleyGuides" (608 : Nat) "pay") ∈ lw_tbl := lw_at lw_m10 209 rfl
theorem q2472 : (Jvm.Cond.stringRef "ValleyGuides" (610 : Nat) "ask") ∈ lw_tbl := lw_at lw_m10 210 rfl
theorem q2473 : (Jvm.Cond.stringRef "ValleyGuides" (611 : Nat) "back") ∈ lw_tbl := lw_at lw_m10 211 rfl
theorem q2474 : (Jvm.Cond.stringRef "ValleyGuides" (613 : Nat) "or") ∈ lw_tbl := lw_at lw_m10 212 rfl
theorem q2475 : (Jvm.Cond.stringRef "ValleyGuides" (615 : Nat) "and") ∈ lw_tbl := lw_at lw_m10 213 rfl
theorem q2476 : (Jvm.Cond.stringRef "ValleyGuides" (617 : Nat) "not") ∈ lw_tbl := lw_at lw_m10 214 rfl
theorem q2477 : (Jvm.Cond.stringRef "ValleyGuides" (619 : Nat) "wind") ∈ lw_tbl := lw_at lw_m10 215 rfl
theorem q2478 : (Jvm.Cond.stringRef "ValleyGuides" (621 : Nat) "rain") ∈ lw_tbl := lw_at lw_m10 216 rfl
theorem q2479 : (Jvm.Cond.stringRef "ValleyGuides" (623 : Nat) "snow") ∈ lw_tbl := lw_at lw_m10 217 rfl
theorem q2480 : (Jvm.Cond.stringRef "ValleyGuides" (625 : Nat) "quarter") ∈ lw_tbl := lw_at lw_m10 218 rfl
theorem q2481 : (Jvm.Cond.stringRef "ValleyGuides" (627 : Nat) "grade") ∈ lw_tbl := lw_at lw_m10 219 rfl
theorem q2482 : (Jvm.Cond.stringRef "ValleyGuides" (628 : Nat) "people") ∈ lw_tbl := lw_at lw_m10 220 rfl
theorem q2483 : (Jvm.Cond.stringRef "ValleyGuides" (629 : Nat) "hard") ∈ lw_tbl := lw_at lw_m10 221 rfl
theorem q2484 : (Jvm.Cond.stringRef "ValleyGuides" (630 : Nat) "length") ∈ lw_tbl := lw_at lw_m10 222 rfl
theorem q2485 : (Jvm.Cond.stringRef "ValleyGuides" (631 : Nat) "day") ∈ lw_tbl := lw_at lw_m10 223 rfl
theorem in_X0 : ∀ w ∈ wsX00, w ∈ lw_all := lw_in wsX00 [593, 595, 597, 599, 601, 603, 605, 607, 609, 611, 613, 615, 617, 619, 621, 623, 625, 627, 629, 631, 633, 635, 637, 639, 641, 643, 645, 647, 649, 651, 653, 655, 657, 659, 661, 663, 665, 667, 669, 671, 673, 675] (by decide +kernel) (by decide +kernel)

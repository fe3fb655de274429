/-! ValleyGuidesModel -/
set_option maxRecDepth 100000
def RX3 : String := "ValleyGuidesModel"
def TX3 : u_T := fun k => match k with
  | 0 => ("ValleyGuidesModel", "places", "I", false)
  | 1 => ("ValleyGuidesModel", "beds", "[I", true)
  | 2 => ("ValleyGuidesModel", "steps", "I", false)
  | 3 => ("ValleyGuidesModel", "sFrom", "[I", true)
  | 4 => ("ValleyGuidesModel", "sTo", "[I", true)
  | 5 => ("ValleyGuidesModel", "sorts", "[I", true)
  | 6 => ("ValleyGuidesModel", "lengths", "[I", true)
  | 7 => ("ValleyGuidesModel", "hards", "[I", true)
  | 8 => ("ValleyGuidesModel", "isNarrow", "[Z", true)
  | 9 => ("ValleyGuidesModel", "routes", "I", false)
  | 10 => ("ValleyGuidesModel", "rMany", "[I", true)
  | 11 => ("ValleyGuidesModel", "rSteps", "[I", true)
  | 12 => ("ValleyGuidesModel", "lanes", "[I", true)
  | 13 => ("ValleyGuidesModel", "sizes", "[I", true)
  | 14 => ("ValleyGuidesModel", "cells", "[I", true)
  | 15 => ("ValleyGuidesModel", "there", "[I", true)
  | 16 => ("ValleyGuidesModel", "isLeft", "[Z", true)
  | 17 => ("ValleyGuidesModel", "guides", "I", false)
  | 18 => ("ValleyGuidesModel", "gGrade", "[I", true)
  | 19 => ("ValleyGuidesModel", "gStrength", "[I", true)
  | 20 => ("ValleyGuidesModel", "gPapers", "[I", true)
  | 21 => ("ValleyGuidesModel", "isOut", "[Z", true)
  | 22 => ("ValleyGuidesModel", "paid", "[I", true)
  | 23 => ("ValleyGuidesModel", "given", "[I", true)
  | 24 => ("ValleyGuidesModel", "order", "[I", true)
  | 25 => ("ValleyGuidesModel", "today", "I", false)
  | 26 => ("ValleyGuidesModel", "purse", "I", false)
  | 27 => ("ValleyGuidesModel", "tape", "[I", true)
  | 28 => ("ValleyGuidesModel", "taped", "I", false)
  | 29 => ("ValleyGuidesModel", "pos", "I", false)
  | 30 => ("ValleyGuidesModel", "from", "I", false)
  | 31 => ("ValleyGuidesModel", "sort", "I", false)
  | 32 => ("ValleyGuidesModel", "value", "I", false)
  | 33 => ("ValleyGuidesModel", "fault", "I", false)
  | 34 => ("ValleyGuidesModel", "wrongAt", "I", false)
  | 35 => ("ValleyGuidesModel", "lines", "I", false)
  | 36 => ("ValleyGuidesModel", "lSort", "[I", true)
  | 37 => ("ValleyGuidesModel", "lBegin", "[I", true)
  | 38 => ("ValleyGuidesModel", "codes", "[I", true)
  | 39 => ("ValleyGuidesModel", "dLines", "I", false)
  | 40 => ("ValleyGuidesModel", "dSort", "[I", true)
  | 41 => ("ValleyGuidesModel", "dBegin", "[I", true)
  | 42 => ("ValleyGuidesModel", "draft", "[I", true)
  | 43 => ("ValleyGuidesModel", "drafted", "I", false)
  | 44 => ("ValleyGuidesModel", "waiting", "[I", true)
  | 45 => ("ValleyGuidesModel", "waitingMany", "I", false)
  | 46 => ("ValleyGuidesModel", "variables", "[I", true)
  | 47 => ("ValleyGuidesModel", "stack", "[I", true)
  | 48 => ("ValleyGuidesModel", "who", "[I", true)
  | 49 => ("ValleyGuidesModel", "people", "I", false)
  | 50 => ("ValleyGuidesModel", "strengths", "[I", true)
  | 51 => ("ValleyGuidesModel", "wishes", "[I", true)
  | 52 => ("ValleyGuidesModel", "worths", "[I", true)
  | 53 => ("ValleyGuidesModel", "firsts", "[I", true)
  | 54 => ("ValleyGuidesModel", "ropes", "I", false)
  | 55 => ("ValleyGuidesModel", "oRoute", "[I", true)
  | 56 => ("ValleyGuidesModel", "oStrength", "[I", true)
  | 57 => ("ValleyGuidesModel", "oStart", "[I", true)
  | 58 => ("ValleyGuidesModel", "oPeople", "[I", true)
  | 59 => ("ValleyGuidesModel", "hasBegun", "[Z", true)
  | 60 => ("ValleyGuidesModel", "isDone", "[Z", true)
  | 61 => ("ValleyGuidesModel", "hasTurned", "[Z", true)
  | 62 => ("ValleyGuidesModel", "behind", "[I", true)
  | 63 => ("ValleyGuidesModel", "place", "[I", true)
  | 64 => ("ValleyGuidesModel", "cameAt", "[I", true)
  | 65 => ("ValleyGuidesModel", "until", "[I", true)
  | 66 => ("ValleyGuidesModel", "doneAt", "[I", true)
  | 67 => ("ValleyGuidesModel", "waited", "[I", true)
  | 68 => ("ValleyGuidesModel", "inBeds", "[I", true)
  | 69 => ("ValleyGuidesModel", "bedsTaken", "[I", true)
  | 70 => ("ValleyGuidesModel", "lieOut", "[I", true)
  | 71 => ("ValleyGuidesModel", "comings", "[I", true)
  | 72 => ("ValleyGuidesModel", "isDecided", "[Z", true)
  | 73 => ("ValleyGuidesModel", "entries", "I", false)
  | 74 => ("ValleyGuidesModel", "eRoute", "[I", true)
  | 75 => ("ValleyGuidesModel", "eGuide", "[I", true)
  | 76 => ("ValleyGuidesModel", "eQuarters", "[I", true)
  | 77 => ("ValleyGuidesModel", "lots", "[I", true)
  | 78 => ("ValleyGuidesModel", "square", "[J", true)
  | 79 => ("ValleyGuidesModel", "right", "[J", true)
  | 80 => ("ValleyGuidesModel", "spots", "[I", true)
  | 81 => ("ValleyGuidesModel", "over", "J", false)
  | 82 => ("ValleyGuidesModel", "under", "J", false)
  | 83 => ("ValleyGuidesModel", "iGuides", "I", false)
  | 84 => ("ValleyGuidesModel", "iOrder", "[I", true)
  | 85 => ("ValleyGuidesModel", "iOut", "[Z", true)
  | 86 => ("ValleyGuidesModel", "iPaid", "[I", true)
  | 87 => ("ValleyGuidesModel", "iGiven", "[I", true)
  | 88 => ("ValleyGuidesModel", "iToday", "I", false)
  | _ => ("ValleyGuidesModel", "iPurse", "I", false)
def tyX3 : Nat → FieldType := fun k => match k with
  | 0 => .int
  | 1 => .array .int
  | 2 => .int
  | 3 => .array .int
  | 4 => .array .int
  | 5 => .array .int
  | 6 => .array .int
  | 7 => .array .int
  | 8 => .array .boolean
  | 9 => .int
  | 10 => .array .int
  | 11 => .array .int
  | 12 => .array .int
  | 13 => .array .int
  | 14 => .array .int
  | 15 => .array .int
  | 16 => .array .boolean
  | 17 => .int
  | 18 => .array .int
  | 19 => .array .int
  | 20 => .array .int
  | 21 => .array .boolean
  | 22 => .array .int
  | 23 => .array .int
  | 24 => .array .int
  | 25 => .int
  | 26 => .int
  | 27 => .array .int
  | 28 => .int
  | 29 => .int
  | 30 => .int
  | 31 => .int
  | 32 => .int
  | 33 => .int
  | 34 => .int
  | 35 => .int
  | 36 => .array .int
  | 37 => .array .int
  | 38 => .array .int
  | 39 => .int
  | 40 => .array .int
  | 41 => .array .int
  | 42 => .array .int
  | 43 => .int
  | 44 => .array .int
  | 45 => .int
  | 46 => .array .int
  | 47 => .array .int
  | 48 => .array .int
  | 49 => .int
  | 50 => .array .int
  | 51 => .array .int
  | 52 => .array .int
  | 53 => .array .int
  | 54 => .int
  | 55 => .array .int
  | 56 => .array .int
  | 57 => .array .int
  | 58 => .array .int
  | 59 => .array .boolean
  | 60 => .array .boolean
  | 61 => .array .boolean
  | 62 => .array .int
  | 63 => .array .int
  | 64 => .array .int
  | 65 => .array .int
  | 66 => .array .int
  | 67 => .array .int
  | 68 => .array .int
  | 69 => .array .int
  | 70 => .array .int
  | 71 => .array .int
  | 72 => .array .boolean
  | 73 => .int
  | 74 => .array .int
  | 75 => .array .int
  | 76 => .array .int
  | 77 => .array .int
  | 78 => .array .long
  | 79 => .array .long
  | 80 => .array .int
  | 81 => .long
  | 82 => .long
  | 83 => .int
  | 84 => .array .int
  | 85 => .array .boolean
  | 86 => .array .int
  | 87 => .array .int
  | 88 => .int
  | _ => .int
abbrev wsX30 : List Cond := u_ws RX3 TX3 90
set_option maxRecDepth 100000 in
theorem nmX3 : ∀ a, a < 90 → ∀ b, b < 90 → a ≠ b → (TX3 a).2.1 ≠ (TX3 b).2.1 := by decide +kernel
set_option maxRecDepth 100000 in
theorem tyX3_ok : ∀ k, k < 90 → parseFieldDescriptor (TX3 k).2.2.1 = some (tyX3 k) := by decide +kernel
abbrev cX3_init : ByteArray := prog_26_method_1_code
def yX3_init : MethodName := ⟨RX3, "<init>", "()V"⟩
def dkwX3_init_23 : List UInt8 := [180, 0, 38, 27, 16, 252, 79, 132, 1, 1, 167, 255, 240, 177]
abbrev dktX3_init_23 : List UInt8 := dkwX3_init_23 ++ []
def dkwX3_init_22 : List UInt8 := [16, 8, 188, 10, 181, 0, 205, 42, 16, 8, 188, 10, 181, 0, 208, 3, 60, 27, 7, 162, 0, 17, 42]
abbrev dktX3_init_22 : List UInt8 := dkwX3_init_22 ++ dktX3_init_23
def dkwX3_init_21 : List UInt8 := [42, 16, 252, 181, 0, 195, 42, 16, 8, 188, 10, 181, 0, 199, 42, 16, 8, 188, 4, 181, 0, 202, 42]
abbrev dktX3_init_21 : List UInt8 := dkwX3_init_21 ++ dktX3_init_22
def dkwX3_init_20 : List UInt8 := [17, 0, 196, 188, 11, 181, 0, 185, 42, 16, 14, 188, 11, 181, 0, 189, 42, 16, 14, 188, 10, 181, 0, 192]
abbrev dktX3_init_20 : List UInt8 := dkwX3_init_20 ++ dktX3_init_21
def dkwX3_init_19 : List UInt8 := [16, 14, 188, 10, 181, 0, 176, 42, 16, 14, 188, 10, 181, 0, 179, 42, 16, 14, 188, 10, 181, 0, 182, 42]
abbrev dktX3_init_19 : List UInt8 := dkwX3_init_19 ++ dktX3_init_20
def dkwX3_init_18 : List UInt8 := [16, 12, 188, 10, 181, 0, 167, 42, 16, 8, 188, 4, 181, 0, 170, 42, 16, 14, 188, 10, 181, 0, 173, 42]
abbrev dktX3_init_18 : List UInt8 := dkwX3_init_18 ++ dktX3_init_19
def dkwX3_init_17 : List UInt8 := [16, 8, 188, 10, 181, 0, 158, 42, 16, 12, 188, 10, 181, 0, 161, 42, 16, 12, 188, 10, 181, 0, 164, 42]
abbrev dktX3_init_17 : List UInt8 := dkwX3_init_17 ++ dktX3_init_18
def dkwX3_init_16 : List UInt8 := [16, 8, 188, 10, 181, 0, 149, 42, 16, 8, 188, 10, 181, 0, 152, 42, 16, 8, 188, 10, 181, 0, 155, 42]
abbrev dktX3_init_16 : List UInt8 := dkwX3_init_16 ++ dktX3_init_17
def dkwX3_init_15 : List UInt8 := [16, 8, 188, 10, 181, 0, 140, 42, 16, 8, 188, 10, 181, 0, 143, 42, 16, 8, 188, 10, 181, 0, 146, 42]
abbrev dktX3_init_15 : List UInt8 := dkwX3_init_15 ++ dktX3_init_16
def dkwX3_init_14 : List UInt8 := [16, 8, 188, 4, 181, 0, 131, 42, 16, 8, 188, 4, 181, 0, 134, 42, 16, 8, 188, 4, 181, 0, 137, 42]
abbrev dktX3_init_14 : List UInt8 := dkwX3_init_14 ++ dktX3_init_15
def dkwX3_init_13 : List UInt8 := [16, 8, 188, 10, 181, 0, 122, 42, 16, 8, 188, 10, 181, 0, 125, 42, 16, 8, 188, 10, 181, 0, 128, 42]
abbrev dktX3_init_13 : List UInt8 := dkwX3_init_13 ++ dktX3_init_14
def dkwX3_init_12 : List UInt8 := [188, 10, 181, 0, 113, 42, 17, 2, 0, 188, 10, 181, 0, 116, 42, 16, 8, 188, 10, 181, 0, 119, 42]
abbrev dktX3_init_12 : List UInt8 := dkwX3_init_12 ++ dktX3_init_13
def dkwX3_init_11 : List UInt8 := [181, 0, 104, 42, 16, 9, 188, 10, 181, 0, 107, 42, 16, 81, 188, 10, 181, 0, 110, 42, 17, 2, 0]
abbrev dktX3_init_11 : List UInt8 := dkwX3_init_11 ++ dktX3_init_12
def dkwX3_init_10 : List UInt8 := [42, 16, 9, 188, 10, 181, 0, 98, 42, 17, 1, 44, 188, 10, 181, 0, 101, 42, 16, 8, 188, 10]
abbrev dktX3_init_10 : List UInt8 := dkwX3_init_10 ++ dktX3_init_11
def dkwX3_init_9 : List UInt8 := [16, 13, 188, 10, 181, 0, 89, 42, 17, 1, 44, 188, 10, 181, 0, 92, 42, 16, 40, 188, 10, 181, 0, 95]
abbrev dktX3_init_9 : List UInt8 := dkwX3_init_9 ++ dktX3_init_10
def dkwX3_init_8 : List UInt8 := [188, 10, 181, 0, 80, 42, 17, 1, 44, 188, 10, 181, 0, 83, 42, 16, 13, 188, 10, 181, 0, 86, 42]
abbrev dktX3_init_8 : List UInt8 := dkwX3_init_8 ++ dktX3_init_9
def dkwX3_init_7 : List UInt8 := [181, 0, 71, 42, 17, 0, 240, 188, 10, 181, 0, 74, 42, 16, 13, 188, 10, 181, 0, 77, 42, 16, 13]
abbrev dktX3_init_7 : List UInt8 := dkwX3_init_7 ++ dktX3_init_8
def dkwX3_init_6 : List UInt8 := [181, 0, 62, 42, 16, 8, 188, 10, 181, 0, 65, 42, 16, 8, 188, 10, 181, 0, 68, 42, 16, 8, 188, 10]
abbrev dktX3_init_6 : List UInt8 := dkwX3_init_6 ++ dktX3_init_7
def dkwX3_init_5 : List UInt8 := [181, 0, 53, 42, 16, 8, 188, 10, 181, 0, 56, 42, 16, 8, 188, 10, 181, 0, 59, 42, 16, 8, 188, 4]
abbrev dktX3_init_5 : List UInt8 := dkwX3_init_5 ++ dktX3_init_6
def dkwX3_init_4 : List UInt8 := [181, 0, 44, 42, 16, 12, 188, 10, 181, 0, 47, 42, 16, 12, 188, 4, 181, 0, 50, 42, 16, 8, 188, 10]
abbrev dktX3_init_4 : List UInt8 := dkwX3_init_4 ++ dktX3_init_5
def dkwX3_init_3 : List UInt8 := [188, 10, 181, 0, 35, 42, 7, 188, 10, 181, 0, 38, 42, 7, 188, 10, 181, 0, 41, 42, 16, 96, 188, 10]
abbrev dktX3_init_3 : List UInt8 := dkwX3_init_3 ++ dktX3_init_4
def dkwX3_init_2 : List UInt8 := [188, 10, 181, 0, 25, 42, 16, 20, 188, 4, 181, 0, 28, 42, 16, 6, 188, 10, 181, 0, 32, 42, 16, 36]
abbrev dktX3_init_2 : List UInt8 := dkwX3_init_2 ++ dktX3_init_3
def dkwX3_init_1 : List UInt8 := [188, 10, 181, 0, 16, 42, 16, 20, 188, 10, 181, 0, 19, 42, 16, 20, 188, 10, 181, 0, 22, 42, 16, 20]
abbrev dktX3_init_1 : List UInt8 := dkwX3_init_1 ++ dktX3_init_2
def dkwX3_init_0 : List UInt8 := [42, 183, 0, 1, 42, 16, 12, 188, 10, 181, 0, 7, 42, 16, 20, 188, 10, 181, 0, 13, 42, 16, 20]
abbrev dktX3_init_0 : List UInt8 := dkwX3_init_0 ++ dktX3_init_1
theorem dksX3_init_0 : cX3_init.data.toList.drop 0 = dktX3_init_0 := by decide +kernel
theorem dksX3_init_1 : cX3_init.data.toList.drop 23 = dktX3_init_1 := dk_seg dksX3_init_0 23 rfl rfl
theorem dksX3_init_2 : cX3_init.data.toList.drop 47 = dktX3_init_2 := dk_seg dksX3_init_1 24 rfl rfl
theorem dksX3_init_3 : cX3_init.data.toList.drop 71 = dktX3_init_3 := dk_seg dksX3_init_2 24 rfl rfl
theorem dksX3_init_4 : cX3_init.data.toList.drop 95 = dktX3_init_4 := dk_seg dksX3_init_3 24 rfl rfl
theorem dksX3_init_5 : cX3_init.data.toList.drop 119 = dktX3_init_5 := dk_seg dksX3_init_4 24 rfl rfl
theorem dksX3_init_6 : cX3_init.data.toList.drop 143 = dktX3_init_6 := dk_seg dksX3_init_5 24 rfl rfl
theorem dksX3_init_7 : cX3_init.data.toList.drop 167 = dktX3_init_7 := dk_seg dksX3_init_6 24 rfl rfl
theorem dksX3_init_8 : cX3_init.data.toList.drop 190 = dktX3_init_8 := dk_seg dksX3_init_7 23 rfl rfl
theorem dksX3_init_9 : cX3_init.data.toList.drop 213 = dktX3_init_9 := dk_seg dksX3_init_8 23 rfl rfl
theorem dksX3_init_10 : cX3_init.data.toList.drop 237 = dktX3_init_10 := dk_seg dksX3_init_9 24 rfl rfl
theorem dksX3_init_11 : cX3_init.data.toList.drop 259 = dktX3_init_11 := dk_seg dksX3_init_10 22 rfl rfl
theorem dksX3_init_12 : cX3_init.data.toList.drop 282 = dktX3_init_12 := dk_seg dksX3_init_11 23 rfl rfl
theorem dksX3_init_13 : cX3_init.data.toList.drop 305 = dktX3_init_13 := dk_seg dksX3_init_12 23 rfl rfl
theorem dksX3_init_14 : cX3_init.data.toList.drop 329 = dktX3_init_14 := dk_seg dksX3_init_13 24 rfl rfl
theorem dksX3_init_15 : cX3_init.data.toList.drop 353 = dktX3_init_15 := dk_seg dksX3_init_14 24 rfl rfl
theorem dksX3_init_16 : cX3_init.data.toList.drop 377 = dktX3_init_16 := dk_seg dksX3_init_15 24 rfl rfl
theorem dksX3_init_17 : cX3_init.data.toList.drop 401 = dktX3_init_17 := dk_seg dksX3_init_16 24 rfl rfl
theorem dksX3_init_18 : cX3_init.data.toList.drop 425 = dktX3_init_18 := dk_seg dksX3_init_17 24 rfl rfl
theorem dksX3_init_19 : cX3_init.data.toList.drop 449 = dktX3_init_19 := dk_seg dksX3_init_18 24 rfl rfl
theorem dksX3_init_20 : cX3_init.data.toList.drop 473 = dktX3_init_20 := dk_seg dksX3_init_19 24 rfl rfl
theorem dksX3_init_21 : cX3_init.data.toList.drop 497 = dktX3_init_21 := dk_seg dksX3_init_20 24 rfl rfl
theorem dksX3_init_22 : cX3_init.data.toList.drop 520 = dktX3_init_22 := dk_seg dksX3_init_21 23 rfl rfl
theorem dksX3_init_23 : cX3_init.data.toList.drop 543 = dktX3_init_23 := dk_seg dksX3_init_22 23 rfl rfl
theorem dX3_init_0 : decode cX3_init 0 = .ok (.aload_n 0, 1) := dk_42 (dk_at dksX3_init_0 0 rfl rfl)
theorem dX3_init_1 : decode cX3_init 1 = .ok (.invokespecial 1, 3) := dk_183 0 1 (dk_at dksX3_init_0 1 rfl rfl)
theorem dX3_init_4 : decode cX3_init 4 = .ok (.aload_n 0, 1) := dk_42 (dk_at dksX3_init_0 4 rfl rfl)
theorem dX3_init_5 : decode cX3_init 5 = .ok (.bipush 12, 2) := dk_16 12 (dk_at dksX3_init_0 5 rfl rfl)
theorem dX3_init_7 : decode cX3_init 7 = .ok (.newarray .int, 2) := dk_188_10 (dk_at dksX3_init_0 7 rfl rfl)
theorem dX3_init_9 : decode cX3_init 9 = .ok (.putfield 7, 3) := dk_181 0 7 (dk_at dksX3_init_0 9 rfl rfl)
theorem dX3_init_12 : decode cX3_init 12 = .ok (.aload_n 0, 1) := dk_42 (dk_at dksX3_init_0 12 rfl rfl)
theorem dX3_init_13 : decode cX3_init 13 = .ok (.bipush 20, 2) := dk_16 20 (dk_at dksX3_init_0 13 rfl rfl)
theorem dX3_init_15 : decode cX3_init 15 = .ok (.newarray .int, 2) := dk_188_10 (dk_at dksX3_init_0 15 rfl rfl)
theorem dX3_init_17 : decode cX3_init 17 = .ok (.putfield 13, 3) := dk_181 0 13 (dk_at dksX3_init_0 17 rfl rfl)
theorem dX3_init_20 : decode cX3_init 20 = .ok (.aload_n 0, 1) := dk_42 (dk_at dksX3_init_0 20 rfl rfl)
theorem dX3_init_21 : decode cX3_init 21 = .ok (.bipush 20, 2) := dk_16 20 (dk_at dksX3_init_0 21 rfl rfl)
theorem dX3_init_23 : decode cX3_init 23 = .ok (.newarray .int, 2) := dk_188_10 (dk_at dksX3_init_1 0 rfl rfl)
theorem dX3_init_25 : decode cX3_init 25 = .ok (.putfield 16, 3) := dk_181 0 16 (dk_at dksX3_init_1 2 rfl rfl)
theorem dX3_init_28 : decode cX3_init 28 = .ok (.aload_n 0, 1) := dk_42 (dk_at dksX3_init_1 5 rfl rfl)
theorem dX3_init_29 : decode cX3_init 29 = .ok (.bipush 20, 2) := dk_16 20 (dk_at dksX3_init_1 6 rfl rfl)
theorem dX3_init_31 : decode cX3_init 31 = .ok (.newarray .int, 2) := dk_188_10 (dk_at dksX3_init_1 8 rfl rfl)
theorem dX3_init_33 : decode cX3_init 33 = .ok (.putfield 19, 3) := dk_181 0 19 (dk_at dksX3_init_1 10 rfl rfl)
theorem dX3_init_36 : decode cX3_init 36 = .ok (.aload_n 0, 1) := dk_42 (dk_at dksX3_init_1 13 rfl rfl)
theorem dX3_init_37 : decode cX3_init 37 = .ok (.bipush 20, 2) := dk_16 20 (dk_at dksX3_init_1 14 rfl rfl)
theorem dX3_init_39 : decode cX3_init 39 = .ok (.newarray .int, 2) := dk_188_10 (dk_at dksX3_init_1 16 rfl rfl)
theorem dX3_init_41 : decode cX3_init 41 = .ok (.putfield 22, 3) := dk_181 0 22 (dk_at dksX3_init_1 18 rfl rfl)
theorem dX3_init_44 : decode cX3_init 44 = .ok (.aload_n 0, 1) := dk_42 (dk_at dksX3_init_1 21 rfl rfl)
theorem dX3_init_45 : decode cX3_init 45 = .ok (.bipush 20, 2) := dk_16 20 (dk_at dksX3_init_1 22 rfl rfl)
theorem dX3_init_47 : decode cX3_init 47 = .ok (.newarray .int, 2) := dk_188_10 (dk_at dksX3_init_2 0 rfl rfl)
theorem dX3_init_49 : decode cX3_init 49 = .ok (.putfield 25, 3) := dk_181 0 25 (dk_at dksX3_init_2 2 rfl rfl)
theorem dX3_init_52 : decode cX3_init 52 = .ok (.aload_n 0, 1) := dk_42 (dk_at dksX3_init_2 5 rfl rfl)
theorem dX3_init_53 : decode cX3_init 53 = .ok (.bipush 20, 2) := dk_16 20 (dk_at dksX3_init_2 6 rfl rfl)
theorem dX3_init_55 : decode cX3_init 55 = .ok (.newarray .boolean, 2) := dk_188_4 (dk_at dksX3_init_2 8 rfl rfl)
theorem dX3_init_57 : decode cX3_init 57 = .ok (.putfield 28, 3) := dk_181 0 28 (dk_at dksX3_init_2 10 rfl rfl)
theorem dX3_init_60 : decode cX3_init 60 = .ok (.aload_n 0, 1) := dk_42 (dk_at dksX3_init_2 13 rfl rfl)
theorem dX3_init_61 : decode cX3_init 61 = .ok (.bipush 6, 2) := dk_16 6 (dk_at dksX3_init_2 14 rfl rfl)
theorem dX3_init_63 : decode cX3_init 63 = .ok (.newarray .int, 2) := dk_188_10 (dk_at dksX3_init_2 16 rfl rfl)
theorem dX3_init_65 : decode cX3_init 65 = .ok (.putfield 32, 3) := dk_181 0 32 (dk_at dksX3_init_2 18 rfl rfl)
theorem dX3_init_68 : decode cX3_init 68 = .ok (.aload_n 0, 1) := dk_42 (dk_at dksX3_init_2 21 rfl rfl)
theorem dX3_init_69 : decode cX3_init 69 = .ok (.bipush 36, 2) := dk_16 36 (dk_at dksX3_init_2 22 rfl rfl)
theorem dX3_init_71 : decode cX3_init 71 = .ok (.newarray .int, 2) := dk_188_10 (dk_at dksX3_init_3 0 rfl rfl)
theorem dX3_init_73 : decode cX3_init 73 = .ok (.putfield 35, 3) := dk_181 0 35 (dk_at dksX3_init_3 2 rfl rfl)
theorem dX3_init_76 : decode cX3_init 76 = .ok (.aload_n 0, 1) := dk_42 (dk_at dksX3_init_3 5 rfl rfl)
theorem dX3_init_77 : decode cX3_init 77 = .ok (.iconst 4, 1) := dk_7 (dk_at dksX3_init_3 6 rfl rfl)
theorem dX3_init_78 : decode cX3_init 78 = .ok (.newarray .int, 2) := dk_188_10 (dk_at dksX3_init_3 7 rfl rfl)
theorem dX3_init_80 : decode cX3_init 80 = .ok (.putfield 38, 3) := dk_181 0 38 (dk_at dksX3_init_3 9 rfl rfl)
theorem dX3_init_83 : decode cX3_init 83 = .ok (.aload_n 0, 1) := dk_42 (dk_at dksX3_init_3 12 rfl rfl)
theorem dX3_init_84 : decode cX3_init 84 = .ok (.iconst 4, 1) := dk_7 (dk_at dksX3_init_3 13 rfl rfl)
theorem dX3_init_85 : decode cX3_init 85 = .ok (.newarray .int, 2) := dk_188_10 (dk_at dksX3_init_3 14 rfl rfl)
theorem dX3_init_87 : decode cX3_init 87 = .ok (.putfield 41, 3) := dk_181 0 41 (dk_at dksX3_init_3 16 rfl rfl)
theorem dX3_init_90 : decode cX3_init 90 = .ok (.aload_n 0, 1) := dk_42 (dk_at dksX3_init_3 19 rfl rfl)
theorem dX3_init_91 : decode cX3_init 91 = .ok (.bipush 96, 2) := dk_16 96 (dk_at dksX3_init_3 20 rfl rfl)
theorem dX3_init_93 : decode cX3_init 93 = .ok (.newarray .int, 2) := dk_188_10 (dk_at dksX3_init_3 22 rfl rfl)
theorem dX3_init_95 : decode cX3_init 95 = .ok (.putfield 44, 3) := dk_181 0 44 (dk_at dksX3_init_4 0 rfl rfl)
theorem dX3_init_98 : decode cX3_init 98 = .ok (.aload_n 0, 1) := dk_42 (dk_at dksX3_init_4 3 rfl rfl)
theorem dX3_init_99 : decode cX3_init 99 = .ok (.bipush 12, 2) := dk_16 12 (dk_at dksX3_init_4 4 rfl rfl)
theorem dX3_init_101 : decode cX3_init 101 = .ok (.newarray .int, 2) := dk_188_10 (dk_at dksX3_init_4 6 rfl rfl)
theorem dX3_init_103 : decode cX3_init 103 = .ok (.putfield 47, 3) := dk_181 0 47 (dk_at dksX3_init_4 8 rfl rfl)
theorem dX3_init_106 : decode cX3_init 106 = .ok (.aload_n 0, 1) := dk_42 (dk_at dksX3_init_4 11 rfl rfl)
theorem dX3_init_107 : decode cX3_init 107 = .ok (.bipush 12, 2) := dk_16 12 (dk_at dksX3_init_4 12 rfl rfl)
theorem dX3_init_109 : decode cX3_init 109 = .ok (.newarray .boolean, 2) := dk_188_4 (dk_at dksX3_init_4 14 rfl rfl)
theorem dX3_init_111 : decode cX3_init 111 = .ok (.putfield 50, 3) := dk_181 0 50 (dk_at dksX3_init_4 16 rfl rfl)
theorem dX3_init_114 : decode cX3_init 114 = .ok (.aload_n 0, 1) := dk_42 (dk_at dksX3_init_4 19 rfl rfl)
theorem dX3_init_115 : decode cX3_init 115 = .ok (.bipush 8, 2) := dk_16 8 (dk_at dksX3_init_4 20 rfl rfl)
theorem dX3_init_117 : decode cX3_init 117 = .ok (.newarray .int, 2) := dk_188_10 (dk_at dksX3_init_4 22 rfl rfl)
theorem dX3_init_119 : decode cX3_init 119 = .ok (.putfield 53, 3) := dk_181 0 53 (dk_at dksX3_init_5 0 rfl rfl)
theorem dX3_init_122 : decode cX3_init 122 = .ok (.aload_n 0, 1) := dk_42 (dk_at dksX3_init_5 3 rfl rfl)
theorem dX3_init_123 : decode cX3_init 123 = .ok (.bipush 8, 2) := dk_16 8 (dk_at dksX3_init_5 4 rfl rfl)
theorem dX3_init_125 : decode cX3_init 125 = .ok (.newarray .int, 2) := dk_188_10 (dk_at dksX3_init_5 6 rfl rfl)
theorem dX3_init_127 : decode cX3_init 127 = .ok (.putfield 56, 3) := dk_181 0 56 (dk_at dksX3_init_5 8 rfl rfl)
theorem dX3_init_130 : decode cX3_init 130 = .ok (.aload_n 0, 1) := dk_42 (dk_at dksX3_init_5 11 rfl rfl)
theorem dX3_init_131 : decode cX3_init 131 = .ok (.bipush 8, 2) := dk_16 8 (dk_at dksX3_init_5 12 rfl rfl)
theorem dX3_init_133 : decode cX3_init 133 = .ok (.newarray .int, 2) := dk_188_10 (dk_at dksX3_init_5 14 rfl rfl)
theorem dX3_init_135 : decode cX3_init 135 = .ok (.putfield 59, 3) := dk_181 0 59 (dk_at dksX3_init_5 16 rfl rfl)
theorem dX3_init_138 : decode cX3_init 138 = .ok (.aload_n 0, 1) := dk_42 (dk_at dksX3_init_5 19 rfl rfl)
theorem dX3_init_139 : decode cX3_init 139 = .ok (.bipush 8, 2) := dk_16 8 (dk_at dksX3_init_5 20 rfl rfl)
theorem dX3_init_141 : decode cX3_init 141 = .ok (.newarray .boolean, 2) := dk_188_4 (dk_at dksX3_init_5 22 rfl rfl)
theorem dX3_init_143 : decode cX3_init 143 = .ok (.putfield 62, 3) := dk_181 0 62 (dk_at dksX3_init_6 0 rfl rfl)
theorem dX3_init_146 : decode cX3_init 146 = .ok (.aload_n 0, 1) := dk_42 (dk_at dksX3_init_6 3 rfl rfl)
theorem dX3_init_147 : decode cX3_init 147 = .ok (.bipush 8, 2) := dk_16 8 (dk_at dksX3_init_6 4 rfl rfl)
theorem dX3_init_149 : decode cX3_init 149 = .ok (.newarray .int, 2) := dk_188_10 (dk_at dksX3_init_6 6 rfl rfl)
theorem dX3_init_151 : decode cX3_init 151 = .ok (.putfield 65, 3) := dk_181 0 65 (dk_at dksX3_init_6 8 rfl rfl)
theorem dX3_init_154 : decode cX3_init 154 = .ok (.aload_n 0, 1) := dk_42 (dk_at dksX3_init_6 11 rfl rfl)
theorem dX3_init_155 : decode cX3_init 155 = .ok (.bipush 8, 2) := dk_16 8 (dk_at dksX3_init_6 12 rfl rfl)
theorem dX3_init_157 : decode cX3_init 157 = .ok (.newarray .int, 2) := dk_188_10 (dk_at dksX3_init_6 14 rfl rfl)
theorem dX3_init_159 : decode cX3_init 159 = .ok (.putfield 68, 3) := dk_181 0 68 (dk_at dksX3_init_6 16 rfl rfl)
theorem dX3_init_162 : decode cX3_init 162 = .ok (.aload_n 0, 1) := dk_42 (dk_at dksX3_init_6 19 rfl rfl)
theorem dX3_init_163 : decode cX3_init 163 = .ok (.bipush 8, 2) := dk_16 8 (dk_at dksX3_init_6 20 rfl rfl)
theorem dX3_init_165 : decode cX3_init 165 = .ok (.newarray .int, 2) := dk_188_10 (dk_at dksX3_init_6 22 rfl rfl)
theorem dX3_init_167 : decode cX3_init 167 = .ok (.putfield 71, 3) := dk_181 0 71 (dk_at dksX3_init_7 0 rfl rfl)
theorem dX3_init_170 : decode cX3_init 170 = .ok (.aload_n 0, 1) := dk_42 (dk_at dksX3_init_7 3 rfl rfl)
theorem dX3_init_171 : decode cX3_init 171 = .ok (.sipush 240, 3) := dk_17 0 240 (dk_at dksX3_init_7 4 rfl rfl)
theorem dX3_init_174 : decode cX3_init 174 = .ok (.newarray .int, 2) := dk_188_10 (dk_at dksX3_init_7 7 rfl rfl)
theorem dX3_init_176 : decode cX3_init 176 = .ok (.putfield 74, 3) := dk_181 0 74 (dk_at dksX3_init_7 9 rfl rfl)
theorem dX3_init_179 : decode cX3_init 179 = .ok (.aload_n 0, 1) := dk_42 (dk_at dksX3_init_7 12 rfl rfl)
theorem dX3_init_180 : decode cX3_init 180 = .ok (.bipush 13, 2) := dk_16 13 (dk_at dksX3_init_7 13 rfl rfl)
theorem dX3_init_182 : decode cX3_init 182 = .ok (.newarray .int, 2) := dk_188_10 (dk_at dksX3_init_7 15 rfl rfl)
theorem dX3_init_184 : decode cX3_init 184 = .ok (.putfield 77, 3) := dk_181 0 77 (dk_at dksX3_init_7 17 rfl rfl)
theorem dX3_init_187 : decode cX3_init 187 = .ok (.aload_n 0, 1) := dk_42 (dk_at dksX3_init_7 20 rfl rfl)
theorem dX3_init_188 : decode cX3_init 188 = .ok (.bipush 13, 2) := dk_16 13 (dk_at dksX3_init_7 21 rfl rfl)
theorem dX3_init_190 : decode cX3_init 190 = .ok (.newarray .int, 2) := dk_188_10 (dk_at dksX3_init_8 0 rfl rfl)
theorem dX3_init_192 : decode cX3_init 192 = .ok (.putfield 80, 3) := dk_181 0 80 (dk_at dksX3_init_8 2 rfl rfl)
theorem dX3_init_195 : decode cX3_init 195 = .ok (.aload_n 0, 1) := dk_42 (dk_at dksX3_init_8 5 rfl rfl)
theorem dX3_init_196 : decode cX3_init 196 = .ok (.sipush 300, 3) := dk_17 1 44 (dk_at dksX3_init_8 6 rfl rfl)
theorem dX3_init_199 : decode cX3_init 199 = .ok (.newarray .int, 2) := dk_188_10 (dk_at dksX3_init_8 9 rfl rfl)
theorem dX3_init_201 : decode cX3_init 201 = .ok (.putfield 83, 3) := dk_181 0 83 (dk_at dksX3_init_8 11 rfl rfl)
theorem dX3_init_204 : decode cX3_init 204 = .ok (.aload_n 0, 1) := dk_42 (dk_at dksX3_init_8 14 rfl rfl)
theorem dX3_init_205 : decode cX3_init 205 = .ok (.bipush 13, 2) := dk_16 13 (dk_at dksX3_init_8 15 rfl rfl)
theorem dX3_init_207 : decode cX3_init 207 = .ok (.newarray .int, 2) := dk_188_10 (dk_at dksX3_init_8 17 rfl rfl)
theorem dX3_init_209 : decode cX3_init 209 = .ok (.putfield 86, 3) := dk_181 0 86 (dk_at dksX3_init_8 19 rfl rfl)
theorem dX3_init_212 : decode cX3_init 212 = .ok (.aload_n 0, 1) := dk_42 (dk_at dksX3_init_8 22 rfl rfl)
theorem dX3_init_213 : decode cX3_init 213 = .ok (.bipush 13, 2) := dk_16 13 (dk_at dksX3_init_9 0 rfl rfl)
theorem dX3_init_215 : decode cX3_init 215 = .ok (.newarray .int, 2) := dk_188_10 (dk_at dksX3_init_9 2 rfl rfl)
theorem dX3_init_217 : decode cX3_init 217 = .ok (.putfield 89, 3) := dk_181 0 89 (dk_at dksX3_init_9 4 rfl rfl)
theorem dX3_init_220 : decode cX3_init 220 = .ok (.aload_n 0, 1) := dk_42 (dk_at dksX3_init_9 7 rfl rfl)
theorem dX3_init_221 : decode cX3_init 221 = .ok (.sipush 300, 3) := dk_17 1 44 (dk_at dksX3_init_9 8 rfl rfl)
theorem dX3_init_224 : decode cX3_init 224 = .ok (.newarray .int, 2) := dk_188_10 (dk_at dksX3_init_9 11 rfl rfl)
theorem dX3_init_226 : decode cX3_init 226 = .ok (.putfield 92, 3) := dk_181 0 92 (dk_at dksX3_init_9 13 rfl rfl)
theorem dX3_init_229 : decode cX3_init 229 = .ok (.aload_n 0, 1) := dk_42 (dk_at dksX3_init_9 16 rfl rfl)
theorem dX3_init_230 : decode cX3_init 230 = .ok (.bipush 40, 2) := dk_16 40 (dk_at dksX3_init_9 17 rfl rfl)
theorem dX3_init_232 : decode cX3_init 232 = .ok (.newarray .int, 2) := dk_188_10 (dk_at dksX3_init_9 19 rfl rfl)
theorem dX3_init_234 : decode cX3_init 234 = .ok (.putfield 95, 3) := dk_181 0 95 (dk_at dksX3_init_9 21 rfl rfl)
theorem dX3_init_237 : decode cX3_init 237 = .ok (.aload_n 0, 1) := dk_42 (dk_at dksX3_init_10 0 rfl rfl)
theorem dX3_init_238 : decode cX3_init 238 = .ok (.bipush 9, 2) := dk_16 9 (dk_at dksX3_init_10 1 rfl rfl)
theorem dX3_init_240 : decode cX3_init 240 = .ok (.newarray .int, 2) := dk_188_10 (dk_at dksX3_init_10 3 rfl rfl)
theorem dX3_init_242 : decode cX3_init 242 = .ok (.putfield 98, 3) := dk_181 0 98 (dk_at dksX3_init_10 5 rfl rfl)
theorem dX3_init_245 : decode cX3_init 245 = .ok (.aload_n 0, 1) := dk_42 (dk_at dksX3_init_10 8 rfl rfl)
theorem dX3_init_246 : decode cX3_init 246 = .ok (.sipush 300, 3) := dk_17 1 44 (dk_at dksX3_init_10 9 rfl rfl)
theorem dX3_init_249 : decode cX3_init 249 = .ok (.newarray .int, 2) := dk_188_10 (dk_at dksX3_init_10 12 rfl rfl)
theorem dX3_init_251 : decode cX3_init 251 = .ok (.putfield 101, 3) := dk_181 0 101 (dk_at dksX3_init_10 14 rfl rfl)
theorem dX3_init_254 : decode cX3_init 254 = .ok (.aload_n 0, 1) := dk_42 (dk_at dksX3_init_10 17 rfl rfl)
theorem dX3_init_255 : decode cX3_init 255 = .ok (.bipush 8, 2) := dk_16 8 (dk_at dksX3_init_10 18 rfl rfl)
theorem dX3_init_257 : decode cX3_init 257 = .ok (.newarray .int, 2) := dk_188_10 (dk_at dksX3_init_10 20 rfl rfl)
theorem dX3_init_259 : decode cX3_init 259 = .ok (.putfield 104, 3) := dk_181 0 104 (dk_at dksX3_init_11 0 rfl rfl)
theorem dX3_init_262 : decode cX3_init 262 = .ok (.aload_n 0, 1) := dk_42 (dk_at dksX3_init_11 3 rfl rfl)
theorem dX3_init_263 : decode cX3_init 263 = .ok (.bipush 9, 2) := dk_16 9 (dk_at dksX3_init_11 4 rfl rfl)
theorem dX3_init_265 : decode cX3_init 265 = .ok (.newarray .int, 2) := dk_188_10 (dk_at dksX3_init_11 6 rfl rfl)
theorem dX3_init_267 : decode cX3_init 267 = .ok (.putfield 107, 3) := dk_181 0 107 (dk_at dksX3_init_11 8 rfl rfl)
theorem dX3_init_270 : decode cX3_init 270 = .ok (.aload_n 0, 1) := dk_42 (dk_at dksX3_init_11 11 rfl rfl)
theorem dX3_init_271 : decode cX3_init 271 = .ok (.bipush 81, 2) := dk_16 81 (dk_at dksX3_init_11 12 rfl rfl)
theorem dX3_init_273 : decode cX3_init 273 = .ok (.newarray .int, 2) := dk_188_10 (dk_at dksX3_init_11 14 rfl rfl)
theorem dX3_init_275 : decode cX3_init 275 = .ok (.putfield 110, 3) := dk_181 0 110 (dk_at dksX3_init_11 16 rfl rfl)
theorem dX3_init_278 : decode cX3_init 278 = .ok (.aload_n 0, 1) := dk_42 (dk_at dksX3_init_11 19 rfl rfl)
theorem dX3_init_279 : decode cX3_init 279 = .ok (.sipush 512, 3) := dk_17 2 0 (dk_at dksX3_init_11 20 rfl rfl)
theorem dX3_init_282 : decode cX3_init 282 = .ok (.newarray .int, 2) := dk_188_10 (dk_at dksX3_init_12 0 rfl rfl)
theorem dX3_init_284 : decode cX3_init 284 = .ok (.putfield 113, 3) := dk_181 0 113 (dk_at dksX3_init_12 2 rfl rfl)
theorem dX3_init_287 : decode cX3_init 287 = .ok (.aload_n 0, 1) := dk_42 (dk_at dksX3_init_12 5 rfl rfl)
theorem dX3_init_288 : decode cX3_init 288 = .ok (.sipush 512, 3) := dk_17 2 0 (dk_at dksX3_init_12 6 rfl rfl)
theorem dX3_init_291 : decode cX3_init 291 = .ok (.newarray .int, 2) := dk_188_10 (dk_at dksX3_init_12 9 rfl rfl)
theorem dX3_init_293 : decode cX3_init 293 = .ok (.putfield 116, 3) := dk_181 0 116 (dk_at dksX3_init_12 11 rfl rfl)
theorem dX3_init_296 : decode cX3_init 296 = .ok (.aload_n 0, 1) := dk_42 (dk_at dksX3_init_12 14 rfl rfl)
theorem dX3_init_297 : decode cX3_init 297 = .ok (.bipush 8, 2) := dk_16 8 (dk_at dksX3_init_12 15 rfl rfl)
theorem dX3_init_299 : decode cX3_init 299 = .ok (.newarray .int, 2) := dk_188_10 (dk_at dksX3_init_12 17 rfl rfl)
theorem dX3_init_301 : decode cX3_init 301 = .ok (.putfield 119, 3) := dk_181 0 119 (dk_at dksX3_init_12 19 rfl rfl)
theorem dX3_init_304 : decode cX3_init 304 = .ok (.aload_n 0, 1) := dk_42 (dk_at dksX3_init_12 22 rfl rfl)
theorem dX3_init_305 : decode cX3_init 305 = .ok (.bipush 8, 2) := dk_16 8 (dk_at dksX3_init_13 0 rfl rfl)
theorem dX3_init_307 : decode cX3_init 307 = .ok (.newarray .int, 2) := dk_188_10 (dk_at dksX3_init_13 2 rfl rfl)
theorem dX3_init_309 : decode cX3_init 309 = .ok (.putfield 122, 3) := dk_181 0 122 (dk_at dksX3_init_13 4 rfl rfl)
theorem dX3_init_312 : decode cX3_init 312 = .ok (.aload_n 0, 1) := dk_42 (dk_at dksX3_init_13 7 rfl rfl)
theorem dX3_init_313 : decode cX3_init 313 = .ok (.bipush 8, 2) := dk_16 8 (dk_at dksX3_init_13 8 rfl rfl)
theorem dX3_init_315 : decode cX3_init 315 = .ok (.newarray .int, 2) := dk_188_10 (dk_at dksX3_init_13 10 rfl rfl)
theorem dX3_init_317 : decode cX3_init 317 = .ok (.putfield 125, 3) := dk_181 0 125 (dk_at dksX3_init_13 12 rfl rfl)
theorem dX3_init_320 : decode cX3_init 320 = .ok (.aload_n 0, 1) := dk_42 (dk_at dksX3_init_13 15 rfl rfl)
theorem dX3_init_321 : decode cX3_init 321 = .ok (.bipush 8, 2) := dk_16 8 (dk_at dksX3_init_13 16 rfl rfl)
theorem dX3_init_323 : decode cX3_init 323 = .ok (.newarray .int, 2) := dk_188_10 (dk_at dksX3_init_13 18 rfl rfl)
theorem dX3_init_325 : decode cX3_init 325 = .ok (.putfield 128, 3) := dk_181 0 128 (dk_at dksX3_init_13 20 rfl rfl)
theorem dX3_init_328 : decode cX3_init 328 = .ok (.aload_n 0, 1) := dk_42 (dk_at dksX3_init_13 23 rfl rfl)
theorem dX3_init_329 : decode cX3_init 329 = .ok (.bipush 8, 2) := dk_16 8 (dk_at dksX3_init_14 0 rfl rfl)
theorem dX3_init_331 : decode cX3_init 331 = .ok (.newarray .boolean, 2) := dk_188_4 (dk_at dksX3_init_14 2 rfl rfl)
theorem dX3_init_333 : decode cX3_init 333 = .ok (.putfield 131, 3) := dk_181 0 131 (dk_at dksX3_init_14 4 rfl rfl)
theorem dX3_init_336 : decode cX3_init 336 = .ok (.aload_n 0, 1) := dk_42 (dk_at dksX3_init_14 7 rfl rfl)
theorem dX3_init_337 : decode cX3_init 337 = .ok (.bipush 8, 2) := dk_16 8 (dk_at dksX3_init_14 8 rfl rfl)
theorem dX3_init_339 : decode cX3_init 339 = .ok (.newarray .boolean, 2) := dk_188_4 (dk_at dksX3_init_14 10 rfl rfl)
theorem dX3_init_341 : decode cX3_init 341 = .ok (.putfield 134, 3) := dk_181 0 134 (dk_at dksX3_init_14 12 rfl rfl)
theorem dX3_init_344 : decode cX3_init 344 = .ok (.aload_n 0, 1) := dk_42 (dk_at dksX3_init_14 15 rfl rfl)
theorem dX3_init_345 : decode cX3_init 345 = .ok (.bipush 8, 2) := dk_16 8 (dk_at dksX3_init_14 16 rfl rfl)
theorem dX3_init_347 : decode cX3_init 347 = .ok (.newarray .boolean, 2) := dk_188_4 (dk_at dksX3_init_14 18 rfl rfl)
theorem dX3_init_349 : decode cX3_init 349 = .ok (.putfield 137, 3) := dk_181 0 137 (dk_at dksX3_init_14 20 rfl rfl)
theorem dX3_init_352 : decode cX3_init 352 = .ok (.aload_n 0, 1) := dk_42 (dk_at dksX3_init_14 23 rfl rfl)
theorem dX3_init_353 : decode cX3_init 353 = .ok (.bipush 8, 2) := dk_16 8 (dk_at dksX3_init_15 0 rfl rfl)
theorem dX3_init_355 : decode cX3_init 355 = .ok (.newarray .int, 2) := dk_188_10 (dk_at dksX3_init_15 2 rfl rfl)
theorem dX3_init_357 : decode cX3_init 357 = .ok (.putfield 140, 3) := dk_181 0 140 (dk_at dksX3_init_15 4 rfl rfl)
theorem dX3_init_360 : decode cX3_init 360 = .ok (.aload_n 0, 1) := dk_42 (dk_at dksX3_init_15 7 rfl rfl)
theorem dX3_init_361 : decode cX3_init 361 = .ok (.bipush 8, 2) := dk_16 8 (dk_at dksX3_init_15 8 rfl rfl)
theorem dX3_init_363 : decode cX3_init 363 = .ok (.newarray .int, 2) := dk_188_10 (dk_at dksX3_init_15 10 rfl rfl)
theorem dX3_init_365 : decode cX3_init 365 = .ok (.putfield 143, 3) := dk_181 0 143 (dk_at dksX3_init_15 12 rfl rfl)
theorem dX3_init_368 : decode cX3_init 368 = .ok (.aload_n 0, 1) := dk_42 (dk_at dksX3_init_15 15 rfl rfl)
theorem dX3_init_369 : decode cX3_init 369 = .ok (.bipush 8, 2) := dk_16 8 (dk_at dksX3_init_15 16 rfl rfl)
theorem dX3_init_371 : decode cX3_init 371 = .ok (.newarray .int, 2) := dk_188_10 (dk_at dksX3_init_15 18 rfl rfl)
theorem dX3_init_373 : decode cX3_init 373 = .ok (.putfield 146, 3) := dk_181 0 146 (dk_at dksX3_init_15 20 rfl rfl)
theorem dX3_init_376 : decode cX3_init 376 = .ok (.aload_n 0, 1) := dk_42 (dk_at dksX3_init_15 23 rfl rfl)
theorem dX3_init_377 : decode cX3_init 377 = .ok (.bipush 8, 2) := dk_16 8 (dk_at dksX3_init_16 0 rfl rfl)
theorem dX3_init_379 : decode cX3_init 379 = .ok (.newarray .int, 2) := dk_188_10 (dk_at dksX3_init_16 2 rfl rfl)
theorem dX3_init_381 : decode cX3_init 381 = .ok (.putfield 149, 3) := dk_181 0 149 (dk_at dksX3_init_16 4 rfl rfl)
theorem dX3_init_384 : decode cX3_init 384 = .ok (.aload_n 0, 1) := dk_42 (dk_at dksX3_init_16 7 rfl rfl)
theorem dX3_init_385 : decode cX3_init 385 = .ok (.bipush 8, 2) := dk_16 8 (dk_at dksX3_init_16 8 rfl rfl)
theorem dX3_init_387 : decode cX3_init 387 = .ok (.newarray .int, 2) := dk_188_10 (dk_at dksX3_init_16 10 rfl rfl)
theorem dX3_init_389 : decode cX3_init 389 = .ok (.putfield 152, 3) := dk_181 0 152 (dk_at dksX3_init_16 12 rfl rfl)
theorem dX3_init_392 : decode cX3_init 392 = .ok (.aload_n 0, 1) := dk_42 (dk_at dksX3_init_16 15 rfl rfl)
theorem dX3_init_393 : decode cX3_init 393 = .ok (.bipush 8, 2) := dk_16 8 (dk_at dksX3_init_16 16 rfl rfl)
theorem dX3_init_395 : decode cX3_init 395 = .ok (.newarray .int, 2) := dk_188_10 (dk_at dksX3_init_16 18 rfl rfl)
theorem dX3_init_397 : decode cX3_init 397 = .ok (.putfield 155, 3) := dk_181 0 155 (dk_at dksX3_init_16 20 rfl rfl)
theorem dX3_init_400 : decode cX3_init 400 = .ok (.aload_n 0, 1) := dk_42 (dk_at dksX3_init_16 23 rfl rfl)
theorem dX3_init_401 : decode cX3_init 401 = .ok (.bipush 8, 2) := dk_16 8 (dk_at dksX3_init_17 0 rfl rfl)
theorem dX3_init_403 : decode cX3_init 403 = .ok (.newarray .int, 2) := dk_188_10 (dk_at dksX3_init_17 2 rfl rfl)
theorem dX3_init_405 : decode cX3_init 405 = .ok (.putfield 158, 3) := dk_181 0 158 (dk_at dksX3_init_17 4 rfl rfl)
theorem dX3_init_408 : decode cX3_init 408 = .ok (.aload_n 0, 1) := dk_42 (dk_at dksX3_init_17 7 rfl rfl)
theorem dX3_init_409 : decode cX3_init 409 = .ok (.bipush 12, 2) := dk_16 12 (dk_at dksX3_init_17 8 rfl rfl)
theorem dX3_init_411 : decode cX3_init 411 = .ok (.newarray .int, 2) := dk_188_10 (dk_at dksX3_init_17 10 rfl rfl)
theorem dX3_init_413 : decode cX3_init 413 = .ok (.putfield 161, 3) := dk_181 0 161 (dk_at dksX3_init_17 12 rfl rfl)
theorem dX3_init_416 : decode cX3_init 416 = .ok (.aload_n 0, 1) := dk_42 (dk_at dksX3_init_17 15 rfl rfl)
theorem dX3_init_417 : decode cX3_init 417 = .ok (.bipush 12, 2) := dk_16 12 (dk_at dksX3_init_17 16 rfl rfl)
theorem dX3_init_419 : decode cX3_init 419 = .ok (.newarray .int, 2) := dk_188_10 (dk_at dksX3_init_17 18 rfl rfl)
theorem dX3_init_421 : decode cX3_init 421 = .ok (.putfield 164, 3) := dk_181 0 164 (dk_at dksX3_init_17 20 rfl rfl)
theorem dX3_init_424 : decode cX3_init 424 = .ok (.aload_n 0, 1) := dk_42 (dk_at dksX3_init_17 23 rfl rfl)
theorem dX3_init_425 : decode cX3_init 425 = .ok (.bipush 12, 2) := dk_16 12 (dk_at dksX3_init_18 0 rfl rfl)
theorem dX3_init_427 : decode cX3_init 427 = .ok (.newarray .int, 2) := dk_188_10 (dk_at dksX3_init_18 2 rfl rfl)
theorem dX3_init_429 : decode cX3_init 429 = .ok (.putfield 167, 3) := dk_181 0 167 (dk_at dksX3_init_18 4 rfl rfl)
theorem dX3_init_432 : decode cX3_init 432 = .ok (.aload_n 0, 1) := dk_42 (dk_at dksX3_init_18 7 rfl rfl)
theorem dX3_init_433 : decode cX3_init 433 = .ok (.bipush 8, 2) := dk_16 8 (dk_at dksX3_init_18 8 rfl rfl)
theorem dX3_init_435 : decode cX3_init 435 = .ok (.newarray .boolean, 2) := dk_188_4 (dk_at dksX3_init_18 10 rfl rfl)
theorem dX3_init_437 : decode cX3_init 437 = .ok (.putfield 170, 3) := dk_181 0 170 (dk_at dksX3_init_18 12 rfl rfl)
theorem dX3_init_440 : decode cX3_init 440 = .ok (.aload_n 0, 1) := dk_42 (dk_at dksX3_init_18 15 rfl rfl)
theorem dX3_init_441 : decode cX3_init 441 = .ok (.bipush 14, 2) := dk_16 14 (dk_at dksX3_init_18 16 rfl rfl)
theorem dX3_init_443 : decode cX3_init 443 = .ok (.newarray .int, 2) := dk_188_10 (dk_at dksX3_init_18 18 rfl rfl)
theorem dX3_init_445 : decode cX3_init 445 = .ok (.putfield 173, 3) := dk_181 0 173 (dk_at dksX3_init_18 20 rfl rfl)
theorem dX3_init_448 : decode cX3_init 448 = .ok (.aload_n 0, 1) := dk_42 (dk_at dksX3_init_18 23 rfl rfl)
theorem dX3_init_449 : decode cX3_init 449 = .ok (.bipush 14, 2) := dk_16 14 (dk_at dksX3_init_19 0 rfl rfl)
theorem dX3_init_451 : decode cX3_init 451 = .ok (.newarray .int, 2) := dk_188_10 (dk_at dksX3_init_19 2 rfl rfl)
theorem dX3_init_453 : decode cX3_init 453 = .ok (.putfield 176, 3) := dk_181 0 176 (dk_at dksX3_init_19 4 rfl rfl)
theorem dX3_init_456 : decode cX3_init 456 = .ok (.aload_n 0, 1) := dk_42 (dk_at dksX3_init_19 7 rfl rfl)
theorem dX3_init_457 : decode cX3_init 457 = .ok (.bipush 14, 2) := dk_16 14 (dk_at dksX3_init_19 8 rfl rfl)
theorem dX3_init_459 : decode cX3_init 459 = .ok (.newarray .int, 2) := dk_188_10 (dk_at dksX3_init_19 10 rfl rfl)
theorem dX3_init_461 : decode cX3_init 461 = .ok (.putfield 179, 3) := dk_181 0 179 (dk_at dksX3_init_19 12 rfl rfl)
theorem dX3_init_464 : decode cX3_init 464 = .ok (.aload_n 0, 1) := dk_42 (dk_at dksX3_init_19 15 rfl rfl)
theorem dX3_init_465 : decode cX3_init 465 = .ok (.bipush 14, 2) := dk_16 14 (dk_at dksX3_init_19 16 rfl rfl)
theorem dX3_init_467 : decode cX3_init 467 = .ok (.newarray .int, 2) := dk_188_10 (dk_at dksX3_init_19 18 rfl rfl)
theorem dX3_init_469 : decode cX3_init 469 = .ok (.putfield 182, 3) := dk_181 0 182 (dk_at dksX3_init_19 20 rfl rfl)
theorem dX3_init_472 : decode cX3_init 472 = .ok (.aload_n 0, 1) := dk_42 (dk_at dksX3_init_19 23 rfl rfl)
theorem dX3_init_473 : decode cX3_init 473 = .ok (.sipush 196, 3) := dk_17 0 196 (dk_at dksX3_init_20 0 rfl rfl)
theorem dX3_init_476 : decode cX3_init 476 = .ok (.newarray .long, 2) := dk_188_11 (dk_at dksX3_init_20 3 rfl rfl)
theorem dX3_init_478 : decode cX3_init 478 = .ok (.putfield 185, 3) := dk_181 0 185 (dk_at dksX3_init_20 5 rfl rfl)
theorem dX3_init_481 : decode cX3_init 481 = .ok (.aload_n 0, 1) := dk_42 (dk_at dksX3_init_20 8 rfl rfl)
theorem dX3_init_482 : decode cX3_init 482 = .ok (.bipush 14, 2) := dk_16 14 (dk_at dksX3_init_20 9 rfl rfl)
theorem dX3_init_484 : decode cX3_init 484 = .ok (.newarray .long, 2) := dk_188_11 (dk_at dksX3_init_20 11 rfl rfl)
theorem dX3_init_486 : decode cX3_init 486 = .ok (.putfield 189, 3) := dk_181 0 189 (dk_at dksX3_init_20 13 rfl rfl)
theorem dX3_init_489 : decode cX3_init 489 = .ok (.aload_n 0, 1) := dk_42 (dk_at dksX3_init_20 16 rfl rfl)
theorem dX3_init_490 : decode cX3_init 490 = .ok (.bipush 14, 2) := dk_16 14 (dk_at dksX3_init_20 17 rfl rfl)
theorem dX3_init_492 : decode cX3_init 492 = .ok (.newarray .int, 2) := dk_188_10 (dk_at dksX3_init_20 19 rfl rfl)
theorem dX3_init_494 : decode cX3_init 494 = .ok (.putfield 192, 3) := dk_181 0 192 (dk_at dksX3_init_20 21 rfl rfl)
theorem dX3_init_497 : decode cX3_init 497 = .ok (.aload_n 0, 1) := dk_42 (dk_at dksX3_init_21 0 rfl rfl)
theorem dX3_init_498 : decode cX3_init 498 = .ok (.bipush (-4), 2) := dk_16 252 (dk_at dksX3_init_21 1 rfl rfl)
theorem dX3_init_500 : decode cX3_init 500 = .ok (.putfield 195, 3) := dk_181 0 195 (dk_at dksX3_init_21 3 rfl rfl)
theorem dX3_init_503 : decode cX3_init 503 = .ok (.aload_n 0, 1) := dk_42 (dk_at dksX3_init_21 6 rfl rfl)
theorem dX3_init_504 : decode cX3_init 504 = .ok (.bipush 8, 2) := dk_16 8 (dk_at dksX3_init_21 7 rfl rfl)
theorem dX3_init_506 : decode cX3_init 506 = .ok (.newarray .int, 2) := dk_188_10 (dk_at dksX3_init_21 9 rfl rfl)
theorem dX3_init_508 : decode cX3_init 508 = .ok (.putfield 199, 3) := dk_181 0 199 (dk_at dksX3_init_21 11 rfl rfl)
theorem dX3_init_511 : decode cX3_init 511 = .ok (.aload_n 0, 1) := dk_42 (dk_at dksX3_init_21 14 rfl rfl)
theorem dX3_init_512 : decode cX3_init 512 = .ok (.bipush 8, 2) := dk_16 8 (dk_at dksX3_init_21 15 rfl rfl)
theorem dX3_init_514 : decode cX3_init 514 = .ok (.newarray .boolean, 2) := dk_188_4 (dk_at dksX3_init_21 17 rfl rfl)
theorem dX3_init_516 : decode cX3_init 516 = .ok (.putfield 202, 3) := dk_181 0 202 (dk_at dksX3_init_21 19 rfl rfl)
theorem dX3_init_519 : decode cX3_init 519 = .ok (.aload_n 0, 1) := dk_42 (dk_at dksX3_init_21 22 rfl rfl)
theorem dX3_init_520 : decode cX3_init 520 = .ok (.bipush 8, 2) := dk_16 8 (dk_at dksX3_init_22 0 rfl rfl)
theorem dX3_init_522 : decode cX3_init 522 = .ok (.newarray .int, 2) := dk_188_10 (dk_at dksX3_init_22 2 rfl rfl)
theorem dX3_init_524 : decode cX3_init 524 = .ok (.putfield 205, 3) := dk_181 0 205 (dk_at dksX3_init_22 4 rfl rfl)
theorem dX3_init_527 : decode cX3_init 527 = .ok (.aload_n 0, 1) := dk_42 (dk_at dksX3_init_22 7 rfl rfl)
theorem dX3_init_528 : decode cX3_init 528 = .ok (.bipush 8, 2) := dk_16 8 (dk_at dksX3_init_22 8 rfl rfl)
theorem dX3_init_530 : decode cX3_init 530 = .ok (.newarray .int, 2) := dk_188_10 (dk_at dksX3_init_22 10 rfl rfl)
theorem dX3_init_532 : decode cX3_init 532 = .ok (.putfield 208, 3) := dk_181 0 208 (dk_at dksX3_init_22 12 rfl rfl)
theorem dX3_init_535 : decode cX3_init 535 = .ok (.iconst 0, 1) := dk_3 (dk_at dksX3_init_22 15 rfl rfl)
theorem dX3_init_536 : decode cX3_init 536 = .ok (.istore_n 1, 1) := dk_60 (dk_at dksX3_init_22 16 rfl rfl)
theorem dX3_init_537 : decode cX3_init 537 = .ok (.iload_n 1, 1) := dk_27 (dk_at dksX3_init_22 17 rfl rfl)
theorem dX3_init_538 : decode cX3_init 538 = .ok (.iconst 4, 1) := dk_7 (dk_at dksX3_init_22 18 rfl rfl)
theorem dX3_init_539 : decode cX3_init 539 = .ok (.if_icmp .ge 17, 3) := dk_162 0 17 (dk_at dksX3_init_22 19 rfl rfl)
theorem dX3_init_542 : decode cX3_init 542 = .ok (.aload_n 0, 1) := dk_42 (dk_at dksX3_init_22 22 rfl rfl)
theorem dX3_init_543 : decode cX3_init 543 = .ok (.getfield 38, 3) := dk_180 0 38 (dk_at dksX3_init_23 0 rfl rfl)
theorem dX3_init_546 : decode cX3_init 546 = .ok (.iload_n 1, 1) := dk_27 (dk_at dksX3_init_23 3 rfl rfl)
theorem dX3_init_547 : decode cX3_init 547 = .ok (.bipush (-4), 2) := dk_16 252 (dk_at dksX3_init_23 4 rfl rfl)
theorem dX3_init_549 : decode cX3_init 549 = .ok (.iastore, 1) := dk_79 (dk_at dksX3_init_23 6 rfl rfl)
theorem dX3_init_550 : decode cX3_init 550 = .ok (.iinc 1 1, 3) := dk_132 1 1 (dk_at dksX3_init_23 7 rfl rfl)
theorem dX3_init_553 : decode cX3_init 553 = .ok (.goto (-16), 3) := dk_167 255 240 (dk_at dksX3_init_23 10 rfl rfl)
theorem dX3_init_556 : decode cX3_init 556 = .ok (.return_, 1) := dk_177 (dk_at dksX3_init_23 13 rfl rfl)
abbrev cX3_place : ByteArray := prog_26_method_8_code
def yX3_place : MethodName := ⟨RX3, "place", "(I)I"⟩
def dkwX3_place_2 : List UInt8 := [180, 0, 211, 4, 100, 172]
abbrev dktX3_place_2 : List UInt8 := dkwX3_place_2 ++ []
def dkwX3_place_1 : List UInt8 := [16, 253, 172, 42, 180, 0, 7, 42, 180, 0, 211, 27, 79, 42, 89, 180, 0, 211, 4, 96, 181, 0, 211, 42]
abbrev dktX3_place_1 : List UInt8 := dkwX3_place_1 ++ dktX3_place_2
def dkwX3_place_0 : List UInt8 := [27, 133, 9, 20, 0, 224, 184, 0, 214, 154, 0, 5, 2, 172, 42, 180, 0, 211, 16, 12, 160, 0, 6]
abbrev dktX3_place_0 : List UInt8 := dkwX3_place_0 ++ dktX3_place_1
theorem dksX3_place_0 : cX3_place.data.toList.drop 0 = dktX3_place_0 := by decide +kernel
theorem dksX3_place_1 : cX3_place.data.toList.drop 23 = dktX3_place_1 := dk_seg dksX3_place_0 23 rfl rfl
theorem dksX3_place_2 : cX3_place.data.toList.drop 47 = dktX3_place_2 := dk_seg dksX3_place_1 24 rfl rfl
theorem dX3_place_0 : decode cX3_place 0 = .ok (.iload_n 1, 1) := dk_27 (dk_at dksX3_place_0 0 rfl rfl)
theorem dX3_place_1 : decode cX3_place 1 = .ok (.i2l, 1) := dk_133 (dk_at dksX3_place_0 1 rfl rfl)
theorem dX3_place_2 : decode cX3_place 2 = .ok (.lconst 0, 1) := dk_9 (dk_at dksX3_place_0 2 rfl rfl)
theorem dX3_place_3 : decode cX3_place 3 = .ok (.ldc2_w 224, 3) := dk_20 0 224 (dk_at dksX3_place_0 3 rfl rfl)
theorem dX3_place_6 : decode cX3_place 6 = .ok (.invokestatic 214, 3) := dk_184 0 214 (dk_at dksX3_place_0 6 rfl rfl)
theorem dX3_place_9 : decode cX3_place 9 = .ok (.ifCond .ne 5, 3) := dk_154 0 5 (dk_at dksX3_place_0 9 rfl rfl)
theorem dX3_place_12 : decode cX3_place 12 = .ok (.iconst (-1), 1) := dk_2 (dk_at dksX3_place_0 12 rfl rfl)
theorem dX3_place_13 : decode cX3_place 13 = .ok (.ireturn, 1) := dk_172 (dk_at dksX3_place_0 13 rfl rfl)
theorem dX3_place_14 : decode cX3_place 14 = .ok (.aload_n 0, 1) := dk_42 (dk_at dksX3_place_0 14 rfl rfl)
theorem dX3_place_15 : decode cX3_place 15 = .ok (.getfield 211, 3) := dk_180 0 211 (dk_at dksX3_place_0 15 rfl rfl)
theorem dX3_place_18 : decode cX3_place 18 = .ok (.bipush 12, 2) := dk_16 12 (dk_at dksX3_place_0 18 rfl rfl)
theorem dX3_place_20 : decode cX3_place 20 = .ok (.if_icmp .ne 6, 3) := dk_160 0 6 (dk_at dksX3_place_0 20 rfl rfl)
theorem dX3_place_23 : decode cX3_place 23 = .ok (.bipush (-3), 2) := dk_16 253 (dk_at dksX3_place_1 0 rfl rfl)
theorem dX3_place_25 : decode cX3_place 25 = .ok (.ireturn, 1) := dk_172 (dk_at dksX3_place_1 2 rfl rfl)
theorem dX3_place_26 : decode cX3_place 26 = .ok (.aload_n 0, 1) := dk_42 (dk_at dksX3_place_1 3 rfl rfl)
theorem dX3_place_27 : decode cX3_place 27 = .ok (.getfield 7, 3) := dk_180 0 7 (dk_at dksX3_place_1 4 rfl rfl)
theorem dX3_place_30 : decode cX3_place 30 = .ok (.aload_n 0, 1) := dk_42 (dk_at dksX3_place_1 7 rfl rfl)
theorem dX3_place_31 : decode cX3_place 31 = .ok (.getfield 211, 3) := dk_180 0 211 (dk_at dksX3_place_1 8 rfl rfl)
theorem dX3_place_34 : decode cX3_place 34 = .ok (.iload_n 1, 1) := dk_27 (dk_at dksX3_place_1 11 rfl rfl)
theorem dX3_place_35 : decode cX3_place 35 = .ok (.iastore, 1) := dk_79 (dk_at dksX3_place_1 12 rfl rfl)
theorem dX3_place_36 : decode cX3_place 36 = .ok (.aload_n 0, 1) := dk_42 (dk_at dksX3_place_1 13 rfl rfl)
theorem dX3_place_37 : decode cX3_place 37 = .ok (.dup, 1) := dk_89 (dk_at dksX3_place_1 14 rfl rfl)
theorem dX3_place_38 : decode cX3_place 38 = .ok (.getfield 211, 3) := dk_180 0 211 (dk_at dksX3_place_1 15 rfl rfl)
theorem dX3_place_41 : decode cX3_place 41 = .ok (.iconst 1, 1) := dk_4 (dk_at dksX3_place_1 18 rfl rfl)
theorem dX3_place_42 : decode cX3_place 42 = .ok (.iadd, 1) := dk_96 (dk_at dksX3_place_1 19 rfl rfl)
theorem dX3_place_43 : decode cX3_place 43 = .ok (.putfield 211, 3) := dk_181 0 211 (dk_at dksX3_place_1 20 rfl rfl)
theorem dX3_place_46 : decode cX3_place 46 = .ok (.aload_n 0, 1) := dk_42 (dk_at dksX3_place_1 23 rfl rfl)
theorem dX3_place_47 : decode cX3_place 47 = .ok (.getfield 211, 3) := dk_180 0 211 (dk_at dksX3_place_2 0 rfl rfl)
theorem dX3_place_50 : decode cX3_place 50 = .ok (.iconst 1, 1) := dk_4 (dk_at dksX3_place_2 3 rfl rfl)
theorem dX3_place_51 : decode cX3_place 51 = .ok (.isub, 1) := dk_100 (dk_at dksX3_place_2 4 rfl rfl)
theorem dX3_place_52 : decode cX3_place 52 = .ok (.ireturn, 1) := dk_172 (dk_at dksX3_place_2 5 rfl rfl)
abbrev cX3_in : ByteArray := prog_26_method_3_code
def yX3_in : MethodName := ⟨RX3, "in", "(JJJ)Z"⟩
def dkwX3_in_0 : List UInt8 := [30, 32, 148, 155, 0, 14, 30, 22, 4, 148, 157, 0, 7, 4, 167, 0, 4, 3, 172]
abbrev dktX3_in_0 : List UInt8 := dkwX3_in_0 ++ []
theorem dksX3_in_0 : cX3_in.data.toList.drop 0 = dktX3_in_0 := by decide +kernel
theorem dX3_in_0 : decode cX3_in 0 = .ok (.lload_n 0, 1) := dk_30 (dk_at dksX3_in_0 0 rfl rfl)
theorem dX3_in_1 : decode cX3_in 1 = .ok (.lload_n 2, 1) := dk_32 (dk_at dksX3_in_0 1 rfl rfl)
theorem dX3_in_2 : decode cX3_in 2 = .ok (.lcmp, 1) := dk_148 (dk_at dksX3_in_0 2 rfl rfl)
theorem dX3_in_3 : decode cX3_in 3 = .ok (.ifCond .lt 14, 3) := dk_155 0 14 (dk_at dksX3_in_0 3 rfl rfl)
theorem dX3_in_6 : decode cX3_in 6 = .ok (.lload_n 0, 1) := dk_30 (dk_at dksX3_in_0 6 rfl rfl)
theorem dX3_in_7 : decode cX3_in 7 = .ok (.lload 4, 2) := dk_22 4 (dk_at dksX3_in_0 7 rfl rfl)
theorem dX3_in_9 : decode cX3_in 9 = .ok (.lcmp, 1) := dk_148 (dk_at dksX3_in_0 9 rfl rfl)
theorem dX3_in_10 : decode cX3_in 10 = .ok (.ifCond .gt 7, 3) := dk_157 0 7 (dk_at dksX3_in_0 10 rfl rfl)
theorem dX3_in_13 : decode cX3_in 13 = .ok (.iconst 1, 1) := dk_4 (dk_at dksX3_in_0 13 rfl rfl)
theorem dX3_in_14 : decode cX3_in 14 = .ok (.goto 4, 3) := dk_167 0 4 (dk_at dksX3_in_0 14 rfl rfl)
theorem dX3_in_17 : decode cX3_in 17 = .ok (.iconst 0, 1) := dk_3 (dk_at dksX3_in_0 17 rfl rfl)
theorem dX3_in_18 : decode cX3_in 18 = .ok (.ireturn, 1) := dk_172 (dk_at dksX3_in_0 18 rfl rfl)
abbrev cX3_step : ByteArray := prog_26_method_9_code
def yX3_step : MethodName := ⟨RX3, "step", "(IIIIIZ)I"⟩
def dkwX3_step_6 : List UInt8 := [96, 181, 0, 218, 42, 180, 0, 218, 4, 100, 172]
abbrev dktX3_step_6 : List UInt8 := dkwX3_step_6 ++ []
def dkwX3_step_5 : List UInt8 := [42, 180, 0, 218, 21, 5, 79, 42, 180, 0, 28, 42, 180, 0, 218, 21, 6, 84, 42, 89, 180, 0, 218, 4]
abbrev dktX3_step_5 : List UInt8 := dkwX3_step_5 ++ dktX3_step_6
def dkwX3_step_4 : List UInt8 := [180, 0, 19, 42, 180, 0, 218, 29, 79, 42, 180, 0, 22, 42, 180, 0, 218, 21, 4, 79, 42, 180, 0, 25]
abbrev dktX3_step_4 : List UInt8 := dkwX3_step_4 ++ dktX3_step_5
def dkwX3_step_3 : List UInt8 := [172, 42, 180, 0, 13, 42, 180, 0, 218, 27, 79, 42, 180, 0, 16, 42, 180, 0, 218, 28, 79, 42]
abbrev dktX3_step_3 : List UInt8 := dkwX3_step_3 ++ dktX3_step_4
def dkwX3_step_2 : List UInt8 := [133, 9, 20, 0, 232, 184, 0, 214, 154, 0, 5, 2, 172, 42, 180, 0, 218, 16, 20, 160, 0, 6, 16, 253]
abbrev dktX3_step_2 : List UInt8 := dkwX3_step_2 ++ dktX3_step_3
def dkwX3_step_1 : List UInt8 := [20, 0, 230, 184, 0, 214, 153, 0, 29, 21, 4, 133, 10, 20, 0, 224, 184, 0, 214, 153, 0, 16, 21, 5]
abbrev dktX3_step_1 : List UInt8 := dkwX3_step_1 ++ dktX3_step_2
def dkwX3_step_0 : List UInt8 := [42, 27, 182, 0, 226, 153, 0, 54, 42, 28, 182, 0, 226, 153, 0, 46, 27, 28, 159, 0, 41, 29, 133, 9]
abbrev dktX3_step_0 : List UInt8 := dkwX3_step_0 ++ dktX3_step_1
theorem dksX3_step_0 : cX3_step.data.toList.drop 0 = dktX3_step_0 := by decide +kernel
theorem dksX3_step_1 : cX3_step.data.toList.drop 24 = dktX3_step_1 := dk_seg dksX3_step_0 24 rfl rfl
theorem dksX3_step_2 : cX3_step.data.toList.drop 48 = dktX3_step_2 := dk_seg dksX3_step_1 24 rfl rfl
theorem dksX3_step_3 : cX3_step.data.toList.drop 72 = dktX3_step_3 := dk_seg dksX3_step_2 24 rfl rfl
theorem dksX3_step_4 : cX3_step.data.toList.drop 94 = dktX3_step_4 := dk_seg dksX3_step_3 22 rfl rfl
theorem dksX3_step_5 : cX3_step.data.toList.drop 118 = dktX3_step_5 := dk_seg dksX3_step_4 24 rfl rfl
theorem dksX3_step_6 : cX3_step.data.toList.drop 142 = dktX3_step_6 := dk_seg dksX3_step_5 24 rfl rfl
theorem dX3_step_0 : decode cX3_step 0 = .ok (.aload_n 0, 1) := dk_42 (dk_at dksX3_step_0 0 rfl rfl)
theorem dX3_step_1 : decode cX3_step 1 = .ok (.iload_n 1, 1) := dk_27 (dk_at dksX3_step_0 1 rfl rfl)
theorem dX3_step_2 : decode cX3_step 2 = .ok (.invokevirtual 226, 3) := dk_182 0 226 (dk_at dksX3_step_0 2 rfl rfl)
theorem dX3_step_5 : decode cX3_step 5 = .ok (.ifCond .eq 54, 3) := dk_153 0 54 (dk_at dksX3_step_0 5 rfl rfl)
theorem dX3_step_8 : decode cX3_step 8 = .ok (.aload_n 0, 1) := dk_42 (dk_at dksX3_step_0 8 rfl rfl)
theorem dX3_step_9 : decode cX3_step 9 = .ok (.iload_n 2, 1) := dk_28 (dk_at dksX3_step_0 9 rfl rfl)
theorem dX3_step_10 : decode cX3_step 10 = .ok (.invokevirtual 226, 3) := dk_182 0 226 (dk_at dksX3_step_0 10 rfl rfl)
theorem dX3_step_13 : decode cX3_step 13 = .ok (.ifCond .eq 46, 3) := dk_153 0 46 (dk_at dksX3_step_0 13 rfl rfl)
theorem dX3_step_16 : decode cX3_step 16 = .ok (.iload_n 1, 1) := dk_27 (dk_at dksX3_step_0 16 rfl rfl)
theorem dX3_step_17 : decode cX3_step 17 = .ok (.iload_n 2, 1) := dk_28 (dk_at dksX3_step_0 17 rfl rfl)
theorem dX3_step_18 : decode cX3_step 18 = .ok (.if_icmp .eq 41, 3) := dk_159 0 41 (dk_at dksX3_step_0 18 rfl rfl)
theorem dX3_step_21 : decode cX3_step 21 = .ok (.iload_n 3, 1) := dk_29 (dk_at dksX3_step_0 21 rfl rfl)
theorem dX3_step_22 : decode cX3_step 22 = .ok (.i2l, 1) := dk_133 (dk_at dksX3_step_0 22 rfl rfl)
theorem dX3_step_23 : decode cX3_step 23 = .ok (.lconst 0, 1) := dk_9 (dk_at dksX3_step_0 23 rfl rfl)
theorem dX3_step_24 : decode cX3_step 24 = .ok (.ldc2_w 230, 3) := dk_20 0 230 (dk_at dksX3_step_1 0 rfl rfl)
theorem dX3_step_27 : decode cX3_step 27 = .ok (.invokestatic 214, 3) := dk_184 0 214 (dk_at dksX3_step_1 3 rfl rfl)
theorem dX3_step_30 : decode cX3_step 30 = .ok (.ifCond .eq 29, 3) := dk_153 0 29 (dk_at dksX3_step_1 6 rfl rfl)
theorem dX3_step_33 : decode cX3_step 33 = .ok (.iload 4, 2) := dk_21 4 (dk_at dksX3_step_1 9 rfl rfl)
theorem dX3_step_35 : decode cX3_step 35 = .ok (.i2l, 1) := dk_133 (dk_at dksX3_step_1 11 rfl rfl)
theorem dX3_step_36 : decode cX3_step 36 = .ok (.lconst 1, 1) := dk_10 (dk_at dksX3_step_1 12 rfl rfl)
theorem dX3_step_37 : decode cX3_step 37 = .ok (.ldc2_w 224, 3) := dk_20 0 224 (dk_at dksX3_step_1 13 rfl rfl)
theorem dX3_step_40 : decode cX3_step 40 = .ok (.invokestatic 214, 3) := dk_184 0 214 (dk_at dksX3_step_1 16 rfl rfl)
theorem dX3_step_43 : decode cX3_step 43 = .ok (.ifCond .eq 16, 3) := dk_153 0 16 (dk_at dksX3_step_1 19 rfl rfl)
theorem dX3_step_46 : decode cX3_step 46 = .ok (.iload 5, 2) := dk_21 5 (dk_at dksX3_step_1 22 rfl rfl)
theorem dX3_step_48 : decode cX3_step 48 = .ok (.i2l, 1) := dk_133 (dk_at dksX3_step_2 0 rfl rfl)
theorem dX3_step_49 : decode cX3_step 49 = .ok (.lconst 0, 1) := dk_9 (dk_at dksX3_step_2 1 rfl rfl)
theorem dX3_step_50 : decode cX3_step 50 = .ok (.ldc2_w 232, 3) := dk_20 0 232 (dk_at dksX3_step_2 2 rfl rfl)
theorem dX3_step_53 : decode cX3_step 53 = .ok (.invokestatic 214, 3) := dk_184 0 214 (dk_at dksX3_step_2 5 rfl rfl)
theorem dX3_step_56 : decode cX3_step 56 = .ok (.ifCond .ne 5, 3) := dk_154 0 5 (dk_at dksX3_step_2 8 rfl rfl)
theorem dX3_step_59 : decode cX3_step 59 = .ok (.iconst (-1), 1) := dk_2 (dk_at dksX3_step_2 11 rfl rfl)
theorem dX3_step_60 : decode cX3_step 60 = .ok (.ireturn, 1) := dk_172 (dk_at dksX3_step_2 12 rfl rfl)
theorem dX3_step_61 : decode cX3_step 61 = .ok (.aload_n 0, 1) := dk_42 (dk_at dksX3_step_2 13 rfl rfl)
theorem dX3_step_62 : decode cX3_step 62 = .ok (.getfield 218, 3) := dk_180 0 218 (dk_at dksX3_step_2 14 rfl rfl)
theorem dX3_step_65 : decode cX3_step 65 = .ok (.bipush 20, 2) := dk_16 20 (dk_at dksX3_step_2 17 rfl rfl)
theorem dX3_step_67 : decode cX3_step 67 = .ok (.if_icmp .ne 6, 3) := dk_160 0 6 (dk_at dksX3_step_2 19 rfl rfl)
theorem dX3_step_70 : decode cX3_step 70 = .ok (.bipush (-3), 2) := dk_16 253 (dk_at dksX3_step_2 22 rfl rfl)
theorem dX3_step_72 : decode cX3_step 72 = .ok (.ireturn, 1) := dk_172 (dk_at dksX3_step_3 0 rfl rfl)
theorem dX3_step_73 : decode cX3_step 73 = .ok (.aload_n 0, 1) := dk_42 (dk_at dksX3_step_3 1 rfl rfl)
theorem dX3_step_74 : decode cX3_step 74 = .ok (.getfield 13, 3) := dk_180 0 13 (dk_at dksX3_step_3 2 rfl rfl)
theorem dX3_step_77 : decode cX3_step 77 = .ok (.aload_n 0, 1) := dk_42 (dk_at dksX3_step_3 5 rfl rfl)
theorem dX3_step_78 : decode cX3_step 78 = .ok (.getfield 218, 3) := dk_180 0 218 (dk_at dksX3_step_3 6 rfl rfl)
theorem dX3_step_81 : decode cX3_step 81 = .ok (.iload_n 1, 1) := dk_27 (dk_at dksX3_step_3 9 rfl rfl)
theorem dX3_step_82 : decode cX3_step 82 = .ok (.iastore, 1) := dk_79 (dk_at dksX3_step_3 10 rfl rfl)
theorem dX3_step_83 : decode cX3_step 83 = .ok (.aload_n 0, 1) := dk_42 (dk_at dksX3_step_3 11 rfl rfl)
theorem dX3_step_84 : decode cX3_step 84 = .ok (.getfield 16, 3) := dk_180 0 16 (dk_at dksX3_step_3 12 rfl rfl)
theorem dX3_step_87 : decode cX3_step 87 = .ok (.aload_n 0, 1) := dk_42 (dk_at dksX3_step_3 15 rfl rfl)
theorem dX3_step_88 : decode cX3_step 88 = .ok (.getfield 218, 3) := dk_180 0 218 (dk_at dksX3_step_3 16 rfl rfl)
theorem dX3_step_91 : decode cX3_step 91 = .ok (.iload_n 2, 1) := dk_28 (dk_at dksX3_step_3 19 rfl rfl)
theorem dX3_step_92 : decode cX3_step 92 = .ok (.iastore, 1) := dk_79 (dk_at dksX3_step_3 20 rfl rfl)
theorem dX3_step_93 : decode cX3_step 93 = .ok (.aload_n 0, 1) := dk_42 (dk_at dksX3_step_3 21 rfl rfl)
theorem dX3_step_94 : decode cX3_step 94 = .ok (.getfield 19, 3) := dk_180 0 19 (dk_at dksX3_step_4 0 rfl rfl)
theorem dX3_step_97 : decode cX3_step 97 = .ok (.aload_n 0, 1) := dk_42 (dk_at dksX3_step_4 3 rfl rfl)
theorem dX3_step_98 : decode cX3_step 98 = .ok (.getfield 218, 3) := dk_180 0 218 (dk_at dksX3_step_4 4 rfl rfl)
theorem dX3_step_101 : decode cX3_step 101 = .ok (.iload_n 3, 1) := dk_29 (dk_at dksX3_step_4 7 rfl rfl)
theorem dX3_step_102 : decode cX3_step 102 = .ok (.iastore, 1) := dk_79 (dk_at dksX3_step_4 8 rfl rfl)
theorem dX3_step_103 : decode cX3_step 103 = .ok (.aload_n 0, 1) := dk_42 (dk_at dksX3_step_4 9 rfl rfl)
theorem dX3_step_104 : decode cX3_step 104 = .ok (.getfield 22, 3) := dk_180 0 22 (dk_at dksX3_step_4 10 rfl rfl)
theorem dX3_step_107 : decode cX3_step 107 = .ok (.aload_n 0, 1) := dk_42 (dk_at dksX3_step_4 13 rfl rfl)
theorem dX3_step_108 : decode cX3_step 108 = .ok (.getfield 218, 3) := dk_180 0 218 (dk_at dksX3_step_4 14 rfl rfl)
theorem dX3_step_111 : decode cX3_step 111 = .ok (.iload 4, 2) := dk_21 4 (dk_at dksX3_step_4 17 rfl rfl)
theorem dX3_step_113 : decode cX3_step 113 = .ok (.iastore, 1) := dk_79 (dk_at dksX3_step_4 19 rfl rfl)
theorem dX3_step_114 : decode cX3_step 114 = .ok (.aload_n 0, 1) := dk_42 (dk_at dksX3_step_4 20 rfl rfl)
theorem dX3_step_115 : decode cX3_step 115 = .ok (.getfield 25, 3) := dk_180 0 25 (dk_at dksX3_step_4 21 rfl rfl)
theorem dX3_step_118 : decode cX3_step 118 = .ok (.aload_n 0, 1) := dk_42 (dk_at dksX3_step_5 0 rfl rfl)
theorem dX3_step_119 : decode cX3_step 119 = .ok (.getfield 218, 3) := dk_180 0 218 (dk_at dksX3_step_5 1 rfl rfl)
theorem dX3_step_122 : decode cX3_step 122 = .ok (.iload 5, 2) := dk_21 5 (dk_at dksX3_step_5 4 rfl rfl)
theorem dX3_step_124 : decode cX3_step 124 = .ok (.iastore, 1) := dk_79 (dk_at dksX3_step_5 6 rfl rfl)
theorem dX3_step_125 : decode cX3_step 125 = .ok (.aload_n 0, 1) := dk_42 (dk_at dksX3_step_5 7 rfl rfl)
theorem dX3_step_126 : decode cX3_step 126 = .ok (.getfield 28, 3) := dk_180 0 28 (dk_at dksX3_step_5 8 rfl rfl)
theorem dX3_step_129 : decode cX3_step 129 = .ok (.aload_n 0, 1) := dk_42 (dk_at dksX3_step_5 11 rfl rfl)
theorem dX3_step_130 : decode cX3_step 130 = .ok (.getfield 218, 3) := dk_180 0 218 (dk_at dksX3_step_5 12 rfl rfl)
theorem dX3_step_133 : decode cX3_step 133 = .ok (.iload 6, 2) := dk_21 6 (dk_at dksX3_step_5 15 rfl rfl)
theorem dX3_step_135 : decode cX3_step 135 = .ok (.bastore, 1) := dk_84 (dk_at dksX3_step_5 17 rfl rfl)
theorem dX3_step_136 : decode cX3_step 136 = .ok (.aload_n 0, 1) := dk_42 (dk_at dksX3_step_5 18 rfl rfl)
theorem dX3_step_137 : decode cX3_step 137 = .ok (.dup, 1) := dk_89 (dk_at dksX3_step_5 19 rfl rfl)
theorem dX3_step_138 : decode cX3_step 138 = .ok (.getfield 218, 3) := dk_180 0 218 (dk_at dksX3_step_5 20 rfl rfl)
theorem dX3_step_141 : decode cX3_step 141 = .ok (.iconst 1, 1) := dk_4 (dk_at dksX3_step_5 23 rfl rfl)
theorem dX3_step_142 : decode cX3_step 142 = .ok (.iadd, 1) := dk_96 (dk_at dksX3_step_6 0 rfl rfl)
theorem dX3_step_143 : decode cX3_step 143 = .ok (.putfield 218, 3) := dk_181 0 218 (dk_at dksX3_step_6 1 rfl rfl)
theorem dX3_step_146 : decode cX3_step 146 = .ok (.aload_n 0, 1) := dk_42 (dk_at dksX3_step_6 4 rfl rfl)
theorem dX3_step_147 : decode cX3_step 147 = .ok (.getfield 218, 3) := dk_180 0 218 (dk_at dksX3_step_6 5 rfl rfl)
theorem dX3_step_150 : decode cX3_step 150 = .ok (.iconst 1, 1) := dk_4 (dk_at dksX3_step_6 8 rfl rfl)
theorem dX3_step_151 : decode cX3_step 151 = .ok (.isub, 1) := dk_100 (dk_at dksX3_step_6 9 rfl rfl)
theorem dX3_step_152 : decode cX3_step 152 = .ok (.ireturn, 1) := dk_172 (dk_at dksX3_step_6 10 rfl rfl)
abbrev cX3_isPlace : ByteArray := prog_26_method_5_code
def yX3_isPlace : MethodName := ⟨RX3, "isPlace", "(I)Z"⟩
def dkwX3_isPlace_0 : List UInt8 := [27, 133, 9, 42, 180, 0, 211, 4, 100, 133, 184, 0, 214, 172]
abbrev dktX3_isPlace_0 : List UInt8 := dkwX3_isPlace_0 ++ []
theorem dksX3_isPlace_0 : cX3_isPlace.data.toList.drop 0 = dktX3_isPlace_0 := by decide +kernel
theorem dX3_isPlace_0 : decode cX3_isPlace 0 = .ok (.iload_n 1, 1) := dk_27 (dk_at dksX3_isPlace_0 0 rfl rfl)
theorem dX3_isPlace_1 : decode cX3_isPlace 1 = .ok (.i2l, 1) := dk_133 (dk_at dksX3_isPlace_0 1 rfl rfl)
theorem dX3_isPlace_2 : decode cX3_isPlace 2 = .ok (.lconst 0, 1) := dk_9 (dk_at dksX3_isPlace_0 2 rfl rfl)
theorem dX3_isPlace_3 : decode cX3_isPlace 3 = .ok (.aload_n 0, 1) := dk_42 (dk_at dksX3_isPlace_0 3 rfl rfl)
theorem dX3_isPlace_4 : decode cX3_isPlace 4 = .ok (.getfield 211, 3) := dk_180 0 211 (dk_at dksX3_isPlace_0 4 rfl rfl)
theorem dX3_isPlace_7 : decode cX3_isPlace 7 = .ok (.iconst 1, 1) := dk_4 (dk_at dksX3_isPlace_0 7 rfl rfl)
theorem dX3_isPlace_8 : decode cX3_isPlace 8 = .ok (.isub, 1) := dk_100 (dk_at dksX3_isPlace_0 8 rfl rfl)
theorem dX3_isPlace_9 : decode cX3_isPlace 9 = .ok (.i2l, 1) := dk_133 (dk_at dksX3_isPlace_0 9 rfl rfl)
theorem dX3_isPlace_10 : decode cX3_isPlace 10 = .ok (.invokestatic 214, 3) := dk_184 0 214 (dk_at dksX3_isPlace_0 10 rfl rfl)
theorem dX3_isPlace_13 : decode cX3_isPlace 13 = .ok (.ireturn, 1) := dk_172 (dk_at dksX3_isPlace_0 13 rfl rfl)
abbrev cX3_stepOf : ByteArray := prog_26_method_10_code
def yX3_stepOf : MethodName := ⟨RX3, "stepOf", "(II)I"⟩
def dkwX3_stepOf_4 : List UInt8 := [180, 0, 28, 27, 51, 153, 0, 7, 4, 167, 0, 4, 3, 172]
abbrev dktX3_stepOf_4 : List UInt8 := dkwX3_stepOf_4 ++ []
def dkwX3_stepOf_3 : List UInt8 := [180, 0, 22, 27, 46, 167, 0, 31, 28, 7, 160, 0, 12, 42, 180, 0, 25, 27, 46, 167, 0, 17, 42]
abbrev dktX3_stepOf_3 : List UInt8 := dkwX3_stepOf_3 ++ dktX3_stepOf_4
def dkwX3_stepOf_2 : List UInt8 := [167, 0, 59, 28, 5, 160, 0, 12, 42, 180, 0, 19, 27, 46, 167, 0, 45, 28, 6, 160, 0, 12, 42]
abbrev dktX3_stepOf_2 : List UInt8 := dkwX3_stepOf_2 ++ dktX3_stepOf_3
def dkwX3_stepOf_1 : List UInt8 := [154, 0, 12, 42, 180, 0, 13, 27, 46, 167, 0, 73, 28, 4, 160, 0, 12, 42, 180, 0, 16, 27, 46]
abbrev dktX3_stepOf_1 : List UInt8 := dkwX3_stepOf_1 ++ dktX3_stepOf_2
def dkwX3_stepOf_0 : List UInt8 := [42, 27, 182, 0, 234, 153, 0, 15, 28, 133, 9, 20, 0, 232, 184, 0, 214, 154, 0, 5, 2, 172, 28]
abbrev dktX3_stepOf_0 : List UInt8 := dkwX3_stepOf_0 ++ dktX3_stepOf_1
theorem dksX3_stepOf_0 : cX3_stepOf.data.toList.drop 0 = dktX3_stepOf_0 := by decide +kernel
theorem dksX3_stepOf_1 : cX3_stepOf.data.toList.drop 23 = dktX3_stepOf_1 := dk_seg dksX3_stepOf_0 23 rfl rfl
theorem dksX3_stepOf_2 : cX3_stepOf.data.toList.drop 46 = dktX3_stepOf_2 := dk_seg dksX3_stepOf_1 23 rfl rfl
theorem dksX3_stepOf_3 : cX3_stepOf.data.toList.drop 69 = dktX3_stepOf_3 := dk_seg dksX3_stepOf_2 23 rfl rfl
theorem dksX3_stepOf_4 : cX3_stepOf.data.toList.drop 92 = dktX3_stepOf_4 := dk_seg dksX3_stepOf_3 23 rfl rfl
theorem dX3_stepOf_0 : decode cX3_stepOf 0 = .ok (.aload_n 0, 1) := dk_42 (dk_at dksX3_stepOf_0 0 rfl rfl)
theorem dX3_stepOf_1 : decode cX3_stepOf 1 = .ok (.iload_n 1, 1) := dk_27 (dk_at dksX3_stepOf_0 1 rfl rfl)
theorem dX3_stepOf_2 : decode cX3_stepOf 2 = .ok (.invokevirtual 234, 3) := dk_182 0 234 (dk_at dksX3_stepOf_0 2 rfl rfl)
theorem dX3_stepOf_5 : decode cX3_stepOf 5 = .ok (.ifCond .eq 15, 3) := dk_153 0 15 (dk_at dksX3_stepOf_0 5 rfl rfl)
theorem dX3_stepOf_8 : decode cX3_stepOf 8 = .ok (.iload_n 2, 1) := dk_28 (dk_at dksX3_stepOf_0 8 rfl rfl)
theorem dX3_stepOf_9 : decode cX3_stepOf 9 = .ok (.i2l, 1) := dk_133 (dk_at dksX3_stepOf_0 9 rfl rfl)
theorem dX3_stepOf_10 : decode cX3_stepOf 10 = .ok (.lconst 0, 1) := dk_9 (dk_at dksX3_stepOf_0 10 rfl rfl)
theorem dX3_stepOf_11 : decode cX3_stepOf 11 = .ok (.ldc2_w 232, 3) := dk_20 0 232 (dk_at dksX3_stepOf_0 11 rfl rfl)
theorem dX3_stepOf_14 : decode cX3_stepOf 14 = .ok (.invokestatic 214, 3) := dk_184 0 214 (dk_at dksX3_stepOf_0 14 rfl rfl)
theorem dX3_stepOf_17 : decode cX3_stepOf 17 = .ok (.ifCond .ne 5, 3) := dk_154 0 5 (dk_at dksX3_stepOf_0 17 rfl rfl)
theorem dX3_stepOf_20 : decode cX3_stepOf 20 = .ok (.iconst (-1), 1) := dk_2 (dk_at dksX3_stepOf_0 20 rfl rfl)
theorem dX3_stepOf_21 : decode cX3_stepOf 21 = .ok (.ireturn, 1) := dk_172 (dk_at dksX3_stepOf_0 21 rfl rfl)
theorem dX3_stepOf_22 : decode cX3_stepOf 22 = .ok (.iload_n 2, 1) := dk_28 (dk_at dksX3_stepOf_0 22 rfl rfl)
theorem dX3_stepOf_23 : decode cX3_stepOf 23 = .ok (.ifCond .ne 12, 3) := dk_154 0 12 (dk_at dksX3_stepOf_1 0 rfl rfl)
theorem dX3_stepOf_26 : decode cX3_stepOf 26 = .ok (.aload_n 0, 1) := dk_42 (dk_at dksX3_stepOf_1 3 rfl rfl)
theorem dX3_stepOf_27 : decode cX3_stepOf 27 = .ok (.getfield 13, 3) := dk_180 0 13 (dk_at dksX3_stepOf_1 4 rfl rfl)
theorem dX3_stepOf_30 : decode cX3_stepOf 30 = .ok (.iload_n 1, 1) := dk_27 (dk_at dksX3_stepOf_1 7 rfl rfl)
theorem dX3_stepOf_31 : decode cX3_stepOf 31 = .ok (.iaload, 1) := dk_46 (dk_at dksX3_stepOf_1 8 rfl rfl)
theorem dX3_stepOf_32 : decode cX3_stepOf 32 = .ok (.goto 73, 3) := dk_167 0 73 (dk_at dksX3_stepOf_1 9 rfl rfl)
theorem dX3_stepOf_35 : decode cX3_stepOf 35 = .ok (.iload_n 2, 1) := dk_28 (dk_at dksX3_stepOf_1 12 rfl rfl)
theorem dX3_stepOf_36 : decode cX3_stepOf 36 = .ok (.iconst 1, 1) := dk_4 (dk_at dksX3_stepOf_1 13 rfl rfl)
theorem dX3_stepOf_37 : decode cX3_stepOf 37 = .ok (.if_icmp .ne 12, 3) := dk_160 0 12 (dk_at dksX3_stepOf_1 14 rfl rfl)
theorem dX3_stepOf_40 : decode cX3_stepOf 40 = .ok (.aload_n 0, 1) := dk_42 (dk_at dksX3_stepOf_1 17 rfl rfl)
theorem dX3_stepOf_41 : decode cX3_stepOf 41 = .ok (.getfield 16, 3) := dk_180 0 16 (dk_at dksX3_stepOf_1 18 rfl rfl)
theorem dX3_stepOf_44 : decode cX3_stepOf 44 = .ok (.iload_n 1, 1) := dk_27 (dk_at dksX3_stepOf_1 21 rfl rfl)
theorem dX3_stepOf_45 : decode cX3_stepOf 45 = .ok (.iaload, 1) := dk_46 (dk_at dksX3_stepOf_1 22 rfl rfl)
theorem dX3_stepOf_46 : decode cX3_stepOf 46 = .ok (.goto 59, 3) := dk_167 0 59 (dk_at dksX3_stepOf_2 0 rfl rfl)
theorem dX3_stepOf_49 : decode cX3_stepOf 49 = .ok (.iload_n 2, 1) := dk_28 (dk_at dksX3_stepOf_2 3 rfl rfl)
theorem dX3_stepOf_50 : decode cX3_stepOf 50 = .ok (.iconst 2, 1) := dk_5 (dk_at dksX3_stepOf_2 4 rfl rfl)
theorem dX3_stepOf_51 : decode cX3_stepOf 51 = .ok (.if_icmp .ne 12, 3) := dk_160 0 12 (dk_at dksX3_stepOf_2 5 rfl rfl)
theorem dX3_stepOf_54 : decode cX3_stepOf 54 = .ok (.aload_n 0, 1) := dk_42 (dk_at dksX3_stepOf_2 8 rfl rfl)
theorem dX3_stepOf_55 : decode cX3_stepOf 55 = .ok (.getfield 19, 3) := dk_180 0 19 (dk_at dksX3_stepOf_2 9 rfl rfl)
theorem dX3_stepOf_58 : decode cX3_stepOf 58 = .ok (.iload_n 1, 1) := dk_27 (dk_at dksX3_stepOf_2 12 rfl rfl)
theorem dX3_stepOf_59 : decode cX3_stepOf 59 = .ok (.iaload, 1) := dk_46 (dk_at dksX3_stepOf_2 13 rfl rfl)
theorem dX3_stepOf_60 : decode cX3_stepOf 60 = .ok (.goto 45, 3) := dk_167 0 45 (dk_at dksX3_stepOf_2 14 rfl rfl)
theorem dX3_stepOf_63 : decode cX3_stepOf 63 = .ok (.iload_n 2, 1) := dk_28 (dk_at dksX3_stepOf_2 17 rfl rfl)
theorem dX3_stepOf_64 : decode cX3_stepOf 64 = .ok (.iconst 3, 1) := dk_6 (dk_at dksX3_stepOf_2 18 rfl rfl)
theorem dX3_stepOf_65 : decode cX3_stepOf 65 = .ok (.if_icmp .ne 12, 3) := dk_160 0 12 (dk_at dksX3_stepOf_2 19 rfl rfl)
theorem dX3_stepOf_68 : decode cX3_stepOf 68 = .ok (.aload_n 0, 1) := dk_42 (dk_at dksX3_stepOf_2 22 rfl rfl)
theorem dX3_stepOf_69 : decode cX3_stepOf 69 = .ok (.getfield 22, 3) := dk_180 0 22 (dk_at dksX3_stepOf_3 0 rfl rfl)
theorem dX3_stepOf_72 : decode cX3_stepOf 72 = .ok (.iload_n 1, 1) := dk_27 (dk_at dksX3_stepOf_3 3 rfl rfl)
theorem dX3_stepOf_73 : decode cX3_stepOf 73 = .ok (.iaload, 1) := dk_46 (dk_at dksX3_stepOf_3 4 rfl rfl)
theorem dX3_stepOf_74 : decode cX3_stepOf 74 = .ok (.goto 31, 3) := dk_167 0 31 (dk_at dksX3_stepOf_3 5 rfl rfl)
theorem dX3_stepOf_77 : decode cX3_stepOf 77 = .ok (.iload_n 2, 1) := dk_28 (dk_at dksX3_stepOf_3 8 rfl rfl)
theorem dX3_stepOf_78 : decode cX3_stepOf 78 = .ok (.iconst 4, 1) := dk_7 (dk_at dksX3_stepOf_3 9 rfl rfl)
theorem dX3_stepOf_79 : decode cX3_stepOf 79 = .ok (.if_icmp .ne 12, 3) := dk_160 0 12 (dk_at dksX3_stepOf_3 10 rfl rfl)
theorem dX3_stepOf_82 : decode cX3_stepOf 82 = .ok (.aload_n 0, 1) := dk_42 (dk_at dksX3_stepOf_3 13 rfl rfl)
theorem dX3_stepOf_83 : decode cX3_stepOf 83 = .ok (.getfield 25, 3) := dk_180 0 25 (dk_at dksX3_stepOf_3 14 rfl rfl)
theorem dX3_stepOf_86 : decode cX3_stepOf 86 = .ok (.iload_n 1, 1) := dk_27 (dk_at dksX3_stepOf_3 17 rfl rfl)
theorem dX3_stepOf_87 : decode cX3_stepOf 87 = .ok (.iaload, 1) := dk_46 (dk_at dksX3_stepOf_3 18 rfl rfl)
theorem dX3_stepOf_88 : decode cX3_stepOf 88 = .ok (.goto 17, 3) := dk_167 0 17 (dk_at dksX3_stepOf_3 19 rfl rfl)
theorem dX3_stepOf_91 : decode cX3_stepOf 91 = .ok (.aload_n 0, 1) := dk_42 (dk_at dksX3_stepOf_3 22 rfl rfl)
theorem dX3_stepOf_92 : decode cX3_stepOf 92 = .ok (.getfield 28, 3) := dk_180 0 28 (dk_at dksX3_stepOf_4 0 rfl rfl)
theorem dX3_stepOf_95 : decode cX3_stepOf 95 = .ok (.iload_n 1, 1) := dk_27 (dk_at dksX3_stepOf_4 3 rfl rfl)
theorem dX3_stepOf_96 : decode cX3_stepOf 96 = .ok (.baload, 1) := dk_51 (dk_at dksX3_stepOf_4 4 rfl rfl)
theorem dX3_stepOf_97 : decode cX3_stepOf 97 = .ok (.ifCond .eq 7, 3) := dk_153 0 7 (dk_at dksX3_stepOf_4 5 rfl rfl)
theorem dX3_stepOf_100 : decode cX3_stepOf 100 = .ok (.iconst 1, 1) := dk_4 (dk_at dksX3_stepOf_4 8 rfl rfl)
theorem dX3_stepOf_101 : decode cX3_stepOf 101 = .ok (.goto 4, 3) := dk_167 0 4 (dk_at dksX3_stepOf_4 9 rfl rfl)
theorem dX3_stepOf_104 : decode cX3_stepOf 104 = .ok (.iconst 0, 1) := dk_3 (dk_at dksX3_stepOf_4 12 rfl rfl)
theorem dX3_stepOf_105 : decode cX3_stepOf 105 = .ok (.ireturn, 1) := dk_172 (dk_at dksX3_stepOf_4 13 rfl rfl)
abbrev cX3_isStep : ByteArray := prog_26_method_6_code
def yX3_isStep : MethodName := ⟨RX3, "isStep", "(I)Z"⟩
def dkwX3_isStep_0 : List UInt8 := [27, 133, 9, 42, 180, 0, 218, 4, 100, 133, 184, 0, 214, 172]
abbrev dktX3_isStep_0 : List UInt8 := dkwX3_isStep_0 ++ []
theorem dksX3_isStep_0 : cX3_isStep.data.toList.drop 0 = dktX3_isStep_0 := by decide +kernel
theorem dX3_isStep_0 : decode cX3_isStep 0 = .ok (.iload_n 1, 1) := dk_27 (dk_at dksX3_isStep_0 0 rfl rfl)
theorem dX3_isStep_1 : decode cX3_isStep 1 = .ok (.i2l, 1) := dk_133 (dk_at dksX3_isStep_0 1 rfl rfl)
theorem dX3_isStep_2 : decode cX3_isStep 2 = .ok (.lconst 0, 1) := dk_9 (dk_at dksX3_isStep_0 2 rfl rfl)
theorem dX3_isStep_3 : decode cX3_isStep 3 = .ok (.aload_n 0, 1) := dk_42 (dk_at dksX3_isStep_0 3 rfl rfl)
theorem dX3_isStep_4 : decode cX3_isStep 4 = .ok (.getfield 218, 3) := dk_180 0 218 (dk_at dksX3_isStep_0 4 rfl rfl)
theorem dX3_isStep_7 : decode cX3_isStep 7 = .ok (.iconst 1, 1) := dk_4 (dk_at dksX3_isStep_0 7 rfl rfl)
theorem dX3_isStep_8 : decode cX3_isStep 8 = .ok (.isub, 1) := dk_100 (dk_at dksX3_isStep_0 8 rfl rfl)
theorem dX3_isStep_9 : decode cX3_isStep 9 = .ok (.i2l, 1) := dk_133 (dk_at dksX3_isStep_0 9 rfl rfl)
theorem dX3_isStep_10 : decode cX3_isStep 10 = .ok (.invokestatic 214, 3) := dk_184 0 214 (dk_at dksX3_isStep_0 10 rfl rfl)
theorem dX3_isStep_13 : decode cX3_isStep 13 = .ok (.ireturn, 1) := dk_172 (dk_at dksX3_isStep_0 13 rfl rfl)
abbrev cX3_route : ByteArray := prog_26_method_11_code
def yX3_route : MethodName := ⟨RX3, "route", "(I)I"⟩
def dkwX3_route_2 : List UInt8 := [180, 0, 221, 4, 96, 181, 0, 221, 42, 180, 0, 221, 4, 100, 172]
abbrev dktX3_route_2 : List UInt8 := dkwX3_route_2 ++ []
def dkwX3_route_1 : List UInt8 := [180, 0, 35, 16, 6, 42, 180, 0, 221, 104, 27, 79, 42, 180, 0, 32, 42, 180, 0, 221, 4, 79, 42, 89]
abbrev dktX3_route_1 : List UInt8 := dkwX3_route_1 ++ dktX3_route_2
def dkwX3_route_0 : List UInt8 := [42, 27, 182, 0, 234, 154, 0, 5, 2, 172, 42, 180, 0, 221, 16, 6, 160, 0, 6, 16, 253, 172, 42]
abbrev dktX3_route_0 : List UInt8 := dkwX3_route_0 ++ dktX3_route_1
theorem dksX3_route_0 : cX3_route.data.toList.drop 0 = dktX3_route_0 := by decide +kernel
theorem dksX3_route_1 : cX3_route.data.toList.drop 23 = dktX3_route_1 := dk_seg dksX3_route_0 23 rfl rfl
theorem dksX3_route_2 : cX3_route.data.toList.drop 47 = dktX3_route_2 := dk_seg dksX3_route_1 24 rfl rfl
theorem dX3_route_0 : decode cX3_route 0 = .ok (.aload_n 0, 1) := dk_42 (dk_at dksX3_route_0 0 rfl rfl)
theorem dX3_route_1 : decode cX3_route 1 = .ok (.iload_n 1, 1) := dk_27 (dk_at dksX3_route_0 1 rfl rfl)
theorem dX3_route_2 : decode cX3_route 2 = .ok (.invokevirtual 234, 3) := dk_182 0 234 (dk_at dksX3_route_0 2 rfl rfl)
theorem dX3_route_5 : decode cX3_route 5 = .ok (.ifCond .ne 5, 3) := dk_154 0 5 (dk_at dksX3_route_0 5 rfl rfl)
theorem dX3_route_8 : decode cX3_route 8 = .ok (.iconst (-1), 1) := dk_2 (dk_at dksX3_route_0 8 rfl rfl)
theorem dX3_route_9 : decode cX3_route 9 = .ok (.ireturn, 1) := dk_172 (dk_at dksX3_route_0 9 rfl rfl)
theorem dX3_route_10 : decode cX3_route 10 = .ok (.aload_n 0, 1) := dk_42 (dk_at dksX3_route_0 10 rfl rfl)
theorem dX3_route_11 : decode cX3_route 11 = .ok (.getfield 221, 3) := dk_180 0 221 (dk_at dksX3_route_0 11 rfl rfl)
theorem dX3_route_14 : decode cX3_route 14 = .ok (.bipush 6, 2) := dk_16 6 (dk_at dksX3_route_0 14 rfl rfl)
theorem dX3_route_16 : decode cX3_route 16 = .ok (.if_icmp .ne 6, 3) := dk_160 0 6 (dk_at dksX3_route_0 16 rfl rfl)
theorem dX3_route_19 : decode cX3_route 19 = .ok (.bipush (-3), 2) := dk_16 253 (dk_at dksX3_route_0 19 rfl rfl)
theorem dX3_route_21 : decode cX3_route 21 = .ok (.ireturn, 1) := dk_172 (dk_at dksX3_route_0 21 rfl rfl)
theorem dX3_route_22 : decode cX3_route 22 = .ok (.aload_n 0, 1) := dk_42 (dk_at dksX3_route_0 22 rfl rfl)
theorem dX3_route_23 : decode cX3_route 23 = .ok (.getfield 35, 3) := dk_180 0 35 (dk_at dksX3_route_1 0 rfl rfl)
theorem dX3_route_26 : decode cX3_route 26 = .ok (.bipush 6, 2) := dk_16 6 (dk_at dksX3_route_1 3 rfl rfl)
theorem dX3_route_28 : decode cX3_route 28 = .ok (.aload_n 0, 1) := dk_42 (dk_at dksX3_route_1 5 rfl rfl)
theorem dX3_route_29 : decode cX3_route 29 = .ok (.getfield 221, 3) := dk_180 0 221 (dk_at dksX3_route_1 6 rfl rfl)
theorem dX3_route_32 : decode cX3_route 32 = .ok (.imul, 1) := dk_104 (dk_at dksX3_route_1 9 rfl rfl)
theorem dX3_route_33 : decode cX3_route 33 = .ok (.iload_n 1, 1) := dk_27 (dk_at dksX3_route_1 10 rfl rfl)
theorem dX3_route_34 : decode cX3_route 34 = .ok (.iastore, 1) := dk_79 (dk_at dksX3_route_1 11 rfl rfl)
theorem dX3_route_35 : decode cX3_route 35 = .ok (.aload_n 0, 1) := dk_42 (dk_at dksX3_route_1 12 rfl rfl)
theorem dX3_route_36 : decode cX3_route 36 = .ok (.getfield 32, 3) := dk_180 0 32 (dk_at dksX3_route_1 13 rfl rfl)
theorem dX3_route_39 : decode cX3_route 39 = .ok (.aload_n 0, 1) := dk_42 (dk_at dksX3_route_1 16 rfl rfl)
theorem dX3_route_40 : decode cX3_route 40 = .ok (.getfield 221, 3) := dk_180 0 221 (dk_at dksX3_route_1 17 rfl rfl)
theorem dX3_route_43 : decode cX3_route 43 = .ok (.iconst 1, 1) := dk_4 (dk_at dksX3_route_1 20 rfl rfl)
theorem dX3_route_44 : decode cX3_route 44 = .ok (.iastore, 1) := dk_79 (dk_at dksX3_route_1 21 rfl rfl)
theorem dX3_route_45 : decode cX3_route 45 = .ok (.aload_n 0, 1) := dk_42 (dk_at dksX3_route_1 22 rfl rfl)
theorem dX3_route_46 : decode cX3_route 46 = .ok (.dup, 1) := dk_89 (dk_at dksX3_route_1 23 rfl rfl)
theorem dX3_route_47 : decode cX3_route 47 = .ok (.getfield 221, 3) := dk_180 0 221 (dk_at dksX3_route_2 0 rfl rfl)
theorem dX3_route_50 : decode cX3_route 50 = .ok (.iconst 1, 1) := dk_4 (dk_at dksX3_route_2 3 rfl rfl)
theorem dX3_route_51 : decode cX3_route 51 = .ok (.iadd, 1) := dk_96 (dk_at dksX3_route_2 4 rfl rfl)
theorem dX3_route_52 : decode cX3_route 52 = .ok (.putfield 221, 3) := dk_181 0 221 (dk_at dksX3_route_2 5 rfl rfl)
theorem dX3_route_55 : decode cX3_route 55 = .ok (.aload_n 0, 1) := dk_42 (dk_at dksX3_route_2 8 rfl rfl)
theorem dX3_route_56 : decode cX3_route 56 = .ok (.getfield 221, 3) := dk_180 0 221 (dk_at dksX3_route_2 9 rfl rfl)
theorem dX3_route_59 : decode cX3_route 59 = .ok (.iconst 1, 1) := dk_4 (dk_at dksX3_route_2 12 rfl rfl)
theorem dX3_route_60 : decode cX3_route 60 = .ok (.isub, 1) := dk_100 (dk_at dksX3_route_2 13 rfl rfl)
theorem dX3_route_61 : decode cX3_route 61 = .ok (.ireturn, 1) := dk_172 (dk_at dksX3_route_2 14 rfl rfl)
abbrev cX3_on : ByteArray := prog_26_method_14_code
def yX3_on : MethodName := ⟨RX3, "on", "(II)I"⟩
def dkwX3_on_3 : List UInt8 := [46, 4, 96, 79, 42, 180, 0, 32, 27, 46, 172]
abbrev dktX3_on_3 : List UInt8 := dkwX3_on_3 ++ []
def dkwX3_on_2 : List UInt8 := [172, 42, 180, 0, 35, 16, 6, 27, 104, 42, 180, 0, 32, 27, 46, 96, 28, 79, 42, 180, 0, 32, 27, 92]
abbrev dktX3_on_2 : List UInt8 := dkwX3_on_2 ++ dktX3_on_3
def dkwX3_on_1 : List UInt8 := [42, 27, 182, 0, 244, 159, 0, 6, 16, 254, 172, 42, 180, 0, 32, 27, 46, 16, 6, 160, 0, 6, 16, 253]
abbrev dktX3_on_1 : List UInt8 := dkwX3_on_1 ++ dktX3_on_2
def dkwX3_on_0 : List UInt8 := [42, 27, 182, 0, 241, 153, 0, 11, 42, 28, 182, 0, 234, 154, 0, 5, 2, 172, 42, 180, 0, 13, 28, 46]
abbrev dktX3_on_0 : List UInt8 := dkwX3_on_0 ++ dktX3_on_1
theorem dksX3_on_0 : cX3_on.data.toList.drop 0 = dktX3_on_0 := by decide +kernel
theorem dksX3_on_1 : cX3_on.data.toList.drop 24 = dktX3_on_1 := dk_seg dksX3_on_0 24 rfl rfl
theorem dksX3_on_2 : cX3_on.data.toList.drop 48 = dktX3_on_2 := dk_seg dksX3_on_1 24 rfl rfl
theorem dksX3_on_3 : cX3_on.data.toList.drop 72 = dktX3_on_3 := dk_seg dksX3_on_2 24 rfl rfl
theorem dX3_on_0 : decode cX3_on 0 = .ok (.aload_n 0, 1) := dk_42 (dk_at dksX3_on_0 0 rfl rfl)
theorem dX3_on_1 : decode cX3_on 1 = .ok (.iload_n 1, 1) := dk_27 (dk_at dksX3_on_0 1 rfl rfl)
theorem dX3_on_2 : decode cX3_on 2 = .ok (.invokevirtual 241, 3) := dk_182 0 241 (dk_at dksX3_on_0 2 rfl rfl)
theorem dX3_on_5 : decode cX3_on 5 = .ok (.ifCond .eq 11, 3) := dk_153 0 11 (dk_at dksX3_on_0 5 rfl rfl)
theorem dX3_on_8 : decode cX3_on 8 = .ok (.aload_n 0, 1) := dk_42 (dk_at dksX3_on_0 8 rfl rfl)
theorem dX3_on_9 : decode cX3_on 9 = .ok (.iload_n 2, 1) := dk_28 (dk_at dksX3_on_0 9 rfl rfl)
theorem dX3_on_10 : decode cX3_on 10 = .ok (.invokevirtual 234, 3) := dk_182 0 234 (dk_at dksX3_on_0 10 rfl rfl)
theorem dX3_on_13 : decode cX3_on 13 = .ok (.ifCond .ne 5, 3) := dk_154 0 5 (dk_at dksX3_on_0 13 rfl rfl)
theorem dX3_on_16 : decode cX3_on 16 = .ok (.iconst (-1), 1) := dk_2 (dk_at dksX3_on_0 16 rfl rfl)
theorem dX3_on_17 : decode cX3_on 17 = .ok (.ireturn, 1) := dk_172 (dk_at dksX3_on_0 17 rfl rfl)
theorem dX3_on_18 : decode cX3_on 18 = .ok (.aload_n 0, 1) := dk_42 (dk_at dksX3_on_0 18 rfl rfl)
theorem dX3_on_19 : decode cX3_on 19 = .ok (.getfield 13, 3) := dk_180 0 13 (dk_at dksX3_on_0 19 rfl rfl)
theorem dX3_on_22 : decode cX3_on 22 = .ok (.iload_n 2, 1) := dk_28 (dk_at dksX3_on_0 22 rfl rfl)
theorem dX3_on_23 : decode cX3_on 23 = .ok (.iaload, 1) := dk_46 (dk_at dksX3_on_0 23 rfl rfl)
theorem dX3_on_24 : decode cX3_on 24 = .ok (.aload_n 0, 1) := dk_42 (dk_at dksX3_on_1 0 rfl rfl)
theorem dX3_on_25 : decode cX3_on 25 = .ok (.iload_n 1, 1) := dk_27 (dk_at dksX3_on_1 1 rfl rfl)
theorem dX3_on_26 : decode cX3_on 26 = .ok (.invokevirtual 244, 3) := dk_182 0 244 (dk_at dksX3_on_1 2 rfl rfl)
theorem dX3_on_29 : decode cX3_on 29 = .ok (.if_icmp .eq 6, 3) := dk_159 0 6 (dk_at dksX3_on_1 5 rfl rfl)
theorem dX3_on_32 : decode cX3_on 32 = .ok (.bipush (-2), 2) := dk_16 254 (dk_at dksX3_on_1 8 rfl rfl)
theorem dX3_on_34 : decode cX3_on 34 = .ok (.ireturn, 1) := dk_172 (dk_at dksX3_on_1 10 rfl rfl)
theorem dX3_on_35 : decode cX3_on 35 = .ok (.aload_n 0, 1) := dk_42 (dk_at dksX3_on_1 11 rfl rfl)
theorem dX3_on_36 : decode cX3_on 36 = .ok (.getfield 32, 3) := dk_180 0 32 (dk_at dksX3_on_1 12 rfl rfl)
theorem dX3_on_39 : decode cX3_on 39 = .ok (.iload_n 1, 1) := dk_27 (dk_at dksX3_on_1 15 rfl rfl)
theorem dX3_on_40 : decode cX3_on 40 = .ok (.iaload, 1) := dk_46 (dk_at dksX3_on_1 16 rfl rfl)
theorem dX3_on_41 : decode cX3_on 41 = .ok (.bipush 6, 2) := dk_16 6 (dk_at dksX3_on_1 17 rfl rfl)
theorem dX3_on_43 : decode cX3_on 43 = .ok (.if_icmp .ne 6, 3) := dk_160 0 6 (dk_at dksX3_on_1 19 rfl rfl)
theorem dX3_on_46 : decode cX3_on 46 = .ok (.bipush (-3), 2) := dk_16 253 (dk_at dksX3_on_1 22 rfl rfl)
theorem dX3_on_48 : decode cX3_on 48 = .ok (.ireturn, 1) := dk_172 (dk_at dksX3_on_2 0 rfl rfl)
theorem dX3_on_49 : decode cX3_on 49 = .ok (.aload_n 0, 1) := dk_42 (dk_at dksX3_on_2 1 rfl rfl)
theorem dX3_on_50 : decode cX3_on 50 = .ok (.getfield 35, 3) := dk_180 0 35 (dk_at dksX3_on_2 2 rfl rfl)
theorem dX3_on_53 : decode cX3_on 53 = .ok (.bipush 6, 2) := dk_16 6 (dk_at dksX3_on_2 5 rfl rfl)
theorem dX3_on_55 : decode cX3_on 55 = .ok (.iload_n 1, 1) := dk_27 (dk_at dksX3_on_2 7 rfl rfl)
theorem dX3_on_56 : decode cX3_on 56 = .ok (.imul, 1) := dk_104 (dk_at dksX3_on_2 8 rfl rfl)
theorem dX3_on_57 : decode cX3_on 57 = .ok (.aload_n 0, 1) := dk_42 (dk_at dksX3_on_2 9 rfl rfl)
theorem dX3_on_58 : decode cX3_on 58 = .ok (.getfield 32, 3) := dk_180 0 32 (dk_at dksX3_on_2 10 rfl rfl)
theorem dX3_on_61 : decode cX3_on 61 = .ok (.iload_n 1, 1) := dk_27 (dk_at dksX3_on_2 13 rfl rfl)
theorem dX3_on_62 : decode cX3_on 62 = .ok (.iaload, 1) := dk_46 (dk_at dksX3_on_2 14 rfl rfl)
theorem dX3_on_63 : decode cX3_on 63 = .ok (.iadd, 1) := dk_96 (dk_at dksX3_on_2 15 rfl rfl)
theorem dX3_on_64 : decode cX3_on 64 = .ok (.iload_n 2, 1) := dk_28 (dk_at dksX3_on_2 16 rfl rfl)
theorem dX3_on_65 : decode cX3_on 65 = .ok (.iastore, 1) := dk_79 (dk_at dksX3_on_2 17 rfl rfl)
theorem dX3_on_66 : decode cX3_on 66 = .ok (.aload_n 0, 1) := dk_42 (dk_at dksX3_on_2 18 rfl rfl)
theorem dX3_on_67 : decode cX3_on 67 = .ok (.getfield 32, 3) := dk_180 0 32 (dk_at dksX3_on_2 19 rfl rfl)
theorem dX3_on_70 : decode cX3_on 70 = .ok (.iload_n 1, 1) := dk_27 (dk_at dksX3_on_2 22 rfl rfl)
theorem dX3_on_71 : decode cX3_on 71 = .ok (.dup2, 1) := dk_92 (dk_at dksX3_on_2 23 rfl rfl)
theorem dX3_on_72 : decode cX3_on 72 = .ok (.iaload, 1) := dk_46 (dk_at dksX3_on_3 0 rfl rfl)
theorem dX3_on_73 : decode cX3_on 73 = .ok (.iconst 1, 1) := dk_4 (dk_at dksX3_on_3 1 rfl rfl)
theorem dX3_on_74 : decode cX3_on 74 = .ok (.iadd, 1) := dk_96 (dk_at dksX3_on_3 2 rfl rfl)
theorem dX3_on_75 : decode cX3_on 75 = .ok (.iastore, 1) := dk_79 (dk_at dksX3_on_3 3 rfl rfl)
theorem dX3_on_76 : decode cX3_on 76 = .ok (.aload_n 0, 1) := dk_42 (dk_at dksX3_on_3 4 rfl rfl)
theorem dX3_on_77 : decode cX3_on 77 = .ok (.getfield 32, 3) := dk_180 0 32 (dk_at dksX3_on_3 5 rfl rfl)
theorem dX3_on_80 : decode cX3_on 80 = .ok (.iload_n 1, 1) := dk_27 (dk_at dksX3_on_3 8 rfl rfl)
theorem dX3_on_81 : decode cX3_on 81 = .ok (.iaload, 1) := dk_46 (dk_at dksX3_on_3 9 rfl rfl)
theorem dX3_on_82 : decode cX3_on 82 = .ok (.ireturn, 1) := dk_172 (dk_at dksX3_on_3 10 rfl rfl)
abbrev cX3_isRoute : ByteArray := prog_26_method_7_code
def yX3_isRoute : MethodName := ⟨RX3, "isRoute", "(I)Z"⟩
def dkwX3_isRoute_0 : List UInt8 := [27, 133, 9, 42, 180, 0, 221, 4, 100, 133, 184, 0, 214, 172]
abbrev dktX3_isRoute_0 : List UInt8 := dkwX3_isRoute_0 ++ []
theorem dksX3_isRoute_0 : cX3_isRoute.data.toList.drop 0 = dktX3_isRoute_0 := by decide +kernel
theorem dX3_isRoute_0 : decode cX3_isRoute 0 = .ok (.iload_n 1, 1) := dk_27 (dk_at dksX3_isRoute_0 0 rfl rfl)
theorem dX3_isRoute_1 : decode cX3_isRoute 1 = .ok (.i2l, 1) := dk_133 (dk_at dksX3_isRoute_0 1 rfl rfl)
theorem dX3_isRoute_2 : decode cX3_isRoute 2 = .ok (.lconst 0, 1) := dk_9 (dk_at dksX3_isRoute_0 2 rfl rfl)
theorem dX3_isRoute_3 : decode cX3_isRoute 3 = .ok (.aload_n 0, 1) := dk_42 (dk_at dksX3_isRoute_0 3 rfl rfl)
theorem dX3_isRoute_4 : decode cX3_isRoute 4 = .ok (.getfield 221, 3) := dk_180 0 221 (dk_at dksX3_isRoute_0 4 rfl rfl)
theorem dX3_isRoute_7 : decode cX3_isRoute 7 = .ok (.iconst 1, 1) := dk_4 (dk_at dksX3_isRoute_0 7 rfl rfl)
theorem dX3_isRoute_8 : decode cX3_isRoute 8 = .ok (.isub, 1) := dk_100 (dk_at dksX3_isRoute_0 8 rfl rfl)
theorem dX3_isRoute_9 : decode cX3_isRoute 9 = .ok (.i2l, 1) := dk_133 (dk_at dksX3_isRoute_0 9 rfl rfl)
theorem dX3_isRoute_10 : decode cX3_isRoute 10 = .ok (.invokestatic 214, 3) := dk_184 0 214 (dk_at dksX3_isRoute_0 10 rfl rfl)
theorem dX3_isRoute_13 : decode cX3_isRoute 13 = .ok (.ireturn, 1) := dk_172 (dk_at dksX3_isRoute_0 13 rfl rfl)
abbrev cX3_endOf : ByteArray := prog_26_method_13_code
def yX3_endOf : MethodName := ⟨RX3, "endOf", "(I)I"⟩
def dkwX3_endOf_0 : List UInt8 := [42, 180, 0, 16, 42, 27, 42, 180, 0, 32, 27, 46, 4, 100, 182, 0, 237, 46, 172]
abbrev dktX3_endOf_0 : List UInt8 := dkwX3_endOf_0 ++ []
theorem dksX3_endOf_0 : cX3_endOf.data.toList.drop 0 = dktX3_endOf_0 := by decide +kernel
theorem dX3_endOf_0 : decode cX3_endOf 0 = .ok (.aload_n 0, 1) := dk_42 (dk_at dksX3_endOf_0 0 rfl rfl)
theorem dX3_endOf_1 : decode cX3_endOf 1 = .ok (.getfield 16, 3) := dk_180 0 16 (dk_at dksX3_endOf_0 1 rfl rfl)
theorem dX3_endOf_4 : decode cX3_endOf 4 = .ok (.aload_n 0, 1) := dk_42 (dk_at dksX3_endOf_0 4 rfl rfl)
theorem dX3_endOf_5 : decode cX3_endOf 5 = .ok (.iload_n 1, 1) := dk_27 (dk_at dksX3_endOf_0 5 rfl rfl)
theorem dX3_endOf_6 : decode cX3_endOf 6 = .ok (.aload_n 0, 1) := dk_42 (dk_at dksX3_endOf_0 6 rfl rfl)
theorem dX3_endOf_7 : decode cX3_endOf 7 = .ok (.getfield 32, 3) := dk_180 0 32 (dk_at dksX3_endOf_0 7 rfl rfl)
theorem dX3_endOf_10 : decode cX3_endOf 10 = .ok (.iload_n 1, 1) := dk_27 (dk_at dksX3_endOf_0 10 rfl rfl)
theorem dX3_endOf_11 : decode cX3_endOf 11 = .ok (.iaload, 1) := dk_46 (dk_at dksX3_endOf_0 11 rfl rfl)
theorem dX3_endOf_12 : decode cX3_endOf 12 = .ok (.iconst 1, 1) := dk_4 (dk_at dksX3_endOf_0 12 rfl rfl)
theorem dX3_endOf_13 : decode cX3_endOf 13 = .ok (.isub, 1) := dk_100 (dk_at dksX3_endOf_0 13 rfl rfl)
theorem dX3_endOf_14 : decode cX3_endOf 14 = .ok (.invokevirtual 237, 3) := dk_182 0 237 (dk_at dksX3_endOf_0 14 rfl rfl)
theorem dX3_endOf_17 : decode cX3_endOf 17 = .ok (.iaload, 1) := dk_46 (dk_at dksX3_endOf_0 17 rfl rfl)
theorem dX3_endOf_18 : decode cX3_endOf 18 = .ok (.ireturn, 1) := dk_172 (dk_at dksX3_endOf_0 18 rfl rfl)
abbrev cX3_stepAt : ByteArray := prog_26_method_12_code
def yX3_stepAt : MethodName := ⟨RX3, "stepAt", "(II)I"⟩
def dkwX3_stepAt_0 : List UInt8 := [42, 180, 0, 35, 16, 6, 27, 104, 28, 96, 46, 172]
abbrev dktX3_stepAt_0 : List UInt8 := dkwX3_stepAt_0 ++ []
theorem dksX3_stepAt_0 : cX3_stepAt.data.toList.drop 0 = dktX3_stepAt_0 := by decide +kernel
theorem dX3_stepAt_0 : decode cX3_stepAt 0 = .ok (.aload_n 0, 1) := dk_42 (dk_at dksX3_stepAt_0 0 rfl rfl)
theorem dX3_stepAt_1 : decode cX3_stepAt 1 = .ok (.getfield 35, 3) := dk_180 0 35 (dk_at dksX3_stepAt_0 1 rfl rfl)
theorem dX3_stepAt_4 : decode cX3_stepAt 4 = .ok (.bipush 6, 2) := dk_16 6 (dk_at dksX3_stepAt_0 4 rfl rfl)
theorem dX3_stepAt_6 : decode cX3_stepAt 6 = .ok (.iload_n 1, 1) := dk_27 (dk_at dksX3_stepAt_0 6 rfl rfl)
theorem dX3_stepAt_7 : decode cX3_stepAt 7 = .ok (.imul, 1) := dk_104 (dk_at dksX3_stepAt_0 7 rfl rfl)
theorem dX3_stepAt_8 : decode cX3_stepAt 8 = .ok (.iload_n 2, 1) := dk_28 (dk_at dksX3_stepAt_0 8 rfl rfl)
theorem dX3_stepAt_9 : decode cX3_stepAt 9 = .ok (.iadd, 1) := dk_96 (dk_at dksX3_stepAt_0 9 rfl rfl)
theorem dX3_stepAt_10 : decode cX3_stepAt 10 = .ok (.iaload, 1) := dk_46 (dk_at dksX3_stepAt_0 10 rfl rfl)
theorem dX3_stepAt_11 : decode cX3_stepAt 11 = .ok (.ireturn, 1) := dk_172 (dk_at dksX3_stepAt_0 11 rfl rfl)
abbrev cX3_routeOf : ByteArray := prog_26_method_18_code
def yX3_routeOf : MethodName := ⟨RX3, "routeOf", "(II)I"⟩
def dkwX3_routeOf_5 : List UInt8 := [100, 182, 0, 237, 172]
abbrev dktX3_routeOf_5 : List UInt8 := dkwX3_routeOf_5 ++ []
def dkwX3_routeOf_4 : List UInt8 := [172, 42, 27, 182, 0, 250, 172, 42, 27, 182, 0, 253, 172, 42, 27, 182, 1, 0, 172, 42, 27, 28, 16, 10]
abbrev dktX3_routeOf_4 : List UInt8 := dkwX3_routeOf_4 ++ dktX3_routeOf_5
def dkwX3_routeOf_3 : List UInt8 := [42, 180, 0, 32, 27, 46, 172, 42, 180, 0, 13, 42, 27, 3, 182, 0, 237, 46, 172, 42, 27, 182, 0, 244]
abbrev dktX3_routeOf_3 : List UInt8 := dkwX3_routeOf_3 ++ dktX3_routeOf_4
def dkwX3_routeOf_2 : List UInt8 := [170, 0, 0, 0, 0, 0, 0, 83, 0, 0, 0, 0, 0, 0, 0, 5, 0, 0, 0, 40, 0, 0, 0, 47, 0, 0, 0, 59, 0, 0, 0, 65, 0, 0, 0, 71, 0, 0, 0, 77]
abbrev dktX3_routeOf_2 : List UInt8 := dkwX3_routeOf_2 ++ dktX3_routeOf_3
def dkwX3_routeOf_1 : List UInt8 := [20, 0, 248, 16, 9, 42, 180, 0, 32, 27, 46, 96, 133, 184, 0, 214, 154, 0, 5, 2, 172, 28]
abbrev dktX3_routeOf_1 : List UInt8 := dkwX3_routeOf_1 ++ dktX3_routeOf_2
def dkwX3_routeOf_0 : List UInt8 := [42, 27, 182, 0, 241, 153, 0, 36, 28, 133, 9, 20, 0, 232, 184, 0, 214, 154, 0, 26, 28, 133]
abbrev dktX3_routeOf_0 : List UInt8 := dkwX3_routeOf_0 ++ dktX3_routeOf_1
theorem dksX3_routeOf_0 : cX3_routeOf.data.toList.drop 0 = dktX3_routeOf_0 := by decide +kernel
theorem dksX3_routeOf_1 : cX3_routeOf.data.toList.drop 22 = dktX3_routeOf_1 := dk_seg dksX3_routeOf_0 22 rfl rfl
theorem dksX3_routeOf_2 : cX3_routeOf.data.toList.drop 44 = dktX3_routeOf_2 := dk_seg dksX3_routeOf_1 22 rfl rfl
theorem dksX3_routeOf_3 : cX3_routeOf.data.toList.drop 84 = dktX3_routeOf_3 := dk_seg dksX3_routeOf_2 40 rfl rfl
theorem dksX3_routeOf_4 : cX3_routeOf.data.toList.drop 108 = dktX3_routeOf_4 := dk_seg dksX3_routeOf_3 24 rfl rfl
theorem dksX3_routeOf_5 : cX3_routeOf.data.toList.drop 132 = dktX3_routeOf_5 := dk_seg dksX3_routeOf_4 24 rfl rfl
theorem dX3_routeOf_0 : decode cX3_routeOf 0 = .ok (.aload_n 0, 1) := dk_42 (dk_at dksX3_routeOf_0 0 rfl rfl)
theorem dX3_routeOf_1 : decode cX3_routeOf 1 = .ok (.iload_n 1, 1) := dk_27 (dk_at dksX3_routeOf_0 1 rfl rfl)
theorem dX3_routeOf_2 : decode cX3_routeOf 2 = .ok (.invokevirtual 241, 3) := dk_182 0 241 (dk_at dksX3_routeOf_0 2 rfl rfl)
theorem dX3_routeOf_5 : decode cX3_routeOf 5 = .ok (.ifCond .eq 36, 3) := dk_153 0 36 (dk_at dksX3_routeOf_0 5 rfl rfl)
theorem dX3_routeOf_8 : decode cX3_routeOf 8 = .ok (.iload_n 2, 1) := dk_28 (dk_at dksX3_routeOf_0 8 rfl rfl)
theorem dX3_routeOf_9 : decode cX3_routeOf 9 = .ok (.i2l, 1) := dk_133 (dk_at dksX3_routeOf_0 9 rfl rfl)
theorem dX3_routeOf_10 : decode cX3_routeOf 10 = .ok (.lconst 0, 1) := dk_9 (dk_at dksX3_routeOf_0 10 rfl rfl)
theorem dX3_routeOf_11 : decode cX3_routeOf 11 = .ok (.ldc2_w 232, 3) := dk_20 0 232 (dk_at dksX3_routeOf_0 11 rfl rfl)
theorem dX3_routeOf_14 : decode cX3_routeOf 14 = .ok (.invokestatic 214, 3) := dk_184 0 214 (dk_at dksX3_routeOf_0 14 rfl rfl)
theorem dX3_routeOf_17 : decode cX3_routeOf 17 = .ok (.ifCond .ne 26, 3) := dk_154 0 26 (dk_at dksX3_routeOf_0 17 rfl rfl)
theorem dX3_routeOf_20 : decode cX3_routeOf 20 = .ok (.iload_n 2, 1) := dk_28 (dk_at dksX3_routeOf_0 20 rfl rfl)
theorem dX3_routeOf_21 : decode cX3_routeOf 21 = .ok (.i2l, 1) := dk_133 (dk_at dksX3_routeOf_0 21 rfl rfl)
theorem dX3_routeOf_22 : decode cX3_routeOf 22 = .ok (.ldc2_w 248, 3) := dk_20 0 248 (dk_at dksX3_routeOf_1 0 rfl rfl)
theorem dX3_routeOf_25 : decode cX3_routeOf 25 = .ok (.bipush 9, 2) := dk_16 9 (dk_at dksX3_routeOf_1 3 rfl rfl)
theorem dX3_routeOf_27 : decode cX3_routeOf 27 = .ok (.aload_n 0, 1) := dk_42 (dk_at dksX3_routeOf_1 5 rfl rfl)
theorem dX3_routeOf_28 : decode cX3_routeOf 28 = .ok (.getfield 32, 3) := dk_180 0 32 (dk_at dksX3_routeOf_1 6 rfl rfl)
theorem dX3_routeOf_31 : decode cX3_routeOf 31 = .ok (.iload_n 1, 1) := dk_27 (dk_at dksX3_routeOf_1 9 rfl rfl)
theorem dX3_routeOf_32 : decode cX3_routeOf 32 = .ok (.iaload, 1) := dk_46 (dk_at dksX3_routeOf_1 10 rfl rfl)
theorem dX3_routeOf_33 : decode cX3_routeOf 33 = .ok (.iadd, 1) := dk_96 (dk_at dksX3_routeOf_1 11 rfl rfl)
theorem dX3_routeOf_34 : decode cX3_routeOf 34 = .ok (.i2l, 1) := dk_133 (dk_at dksX3_routeOf_1 12 rfl rfl)
theorem dX3_routeOf_35 : decode cX3_routeOf 35 = .ok (.invokestatic 214, 3) := dk_184 0 214 (dk_at dksX3_routeOf_1 13 rfl rfl)
theorem dX3_routeOf_38 : decode cX3_routeOf 38 = .ok (.ifCond .ne 5, 3) := dk_154 0 5 (dk_at dksX3_routeOf_1 16 rfl rfl)
theorem dX3_routeOf_41 : decode cX3_routeOf 41 = .ok (.iconst (-1), 1) := dk_2 (dk_at dksX3_routeOf_1 19 rfl rfl)
theorem dX3_routeOf_42 : decode cX3_routeOf 42 = .ok (.ireturn, 1) := dk_172 (dk_at dksX3_routeOf_1 20 rfl rfl)
theorem dX3_routeOf_43 : decode cX3_routeOf 43 = .ok (.iload_n 2, 1) := dk_28 (dk_at dksX3_routeOf_1 21 rfl rfl)
theorem dX3_routeOf_44 : decode cX3_routeOf 44 = .ok (.tableswitch 83 0 5 #[40, 47, 59, 65, 71, 77], 40) := by decide +kernel
theorem dX3_routeOf_84 : decode cX3_routeOf 84 = .ok (.aload_n 0, 1) := dk_42 (dk_at dksX3_routeOf_3 0 rfl rfl)
theorem dX3_routeOf_85 : decode cX3_routeOf 85 = .ok (.getfield 32, 3) := dk_180 0 32 (dk_at dksX3_routeOf_3 1 rfl rfl)
theorem dX3_routeOf_88 : decode cX3_routeOf 88 = .ok (.iload_n 1, 1) := dk_27 (dk_at dksX3_routeOf_3 4 rfl rfl)
theorem dX3_routeOf_89 : decode cX3_routeOf 89 = .ok (.iaload, 1) := dk_46 (dk_at dksX3_routeOf_3 5 rfl rfl)
theorem dX3_routeOf_90 : decode cX3_routeOf 90 = .ok (.ireturn, 1) := dk_172 (dk_at dksX3_routeOf_3 6 rfl rfl)
theorem dX3_routeOf_91 : decode cX3_routeOf 91 = .ok (.aload_n 0, 1) := dk_42 (dk_at dksX3_routeOf_3 7 rfl rfl)
theorem dX3_routeOf_92 : decode cX3_routeOf 92 = .ok (.getfield 13, 3) := dk_180 0 13 (dk_at dksX3_routeOf_3 8 rfl rfl)
theorem dX3_routeOf_95 : decode cX3_routeOf 95 = .ok (.aload_n 0, 1) := dk_42 (dk_at dksX3_routeOf_3 11 rfl rfl)
theorem dX3_routeOf_96 : decode cX3_routeOf 96 = .ok (.iload_n 1, 1) := dk_27 (dk_at dksX3_routeOf_3 12 rfl rfl)
theorem dX3_routeOf_97 : decode cX3_routeOf 97 = .ok (.iconst 0, 1) := dk_3 (dk_at dksX3_routeOf_3 13 rfl rfl)
theorem dX3_routeOf_98 : decode cX3_routeOf 98 = .ok (.invokevirtual 237, 3) := dk_182 0 237 (dk_at dksX3_routeOf_3 14 rfl rfl)
theorem dX3_routeOf_101 : decode cX3_routeOf 101 = .ok (.iaload, 1) := dk_46 (dk_at dksX3_routeOf_3 17 rfl rfl)
theorem dX3_routeOf_102 : decode cX3_routeOf 102 = .ok (.ireturn, 1) := dk_172 (dk_at dksX3_routeOf_3 18 rfl rfl)
theorem dX3_routeOf_103 : decode cX3_routeOf 103 = .ok (.aload_n 0, 1) := dk_42 (dk_at dksX3_routeOf_3 19 rfl rfl)
theorem dX3_routeOf_104 : decode cX3_routeOf 104 = .ok (.iload_n 1, 1) := dk_27 (dk_at dksX3_routeOf_3 20 rfl rfl)
theorem dX3_routeOf_105 : decode cX3_routeOf 105 = .ok (.invokevirtual 244, 3) := dk_182 0 244 (dk_at dksX3_routeOf_3 21 rfl rfl)
theorem dX3_routeOf_108 : decode cX3_routeOf 108 = .ok (.ireturn, 1) := dk_172 (dk_at dksX3_routeOf_4 0 rfl rfl)
theorem dX3_routeOf_109 : decode cX3_routeOf 109 = .ok (.aload_n 0, 1) := dk_42 (dk_at dksX3_routeOf_4 1 rfl rfl)
theorem dX3_routeOf_110 : decode cX3_routeOf 110 = .ok (.iload_n 1, 1) := dk_27 (dk_at dksX3_routeOf_4 2 rfl rfl)
theorem dX3_routeOf_111 : decode cX3_routeOf 111 = .ok (.invokevirtual 250, 3) := dk_182 0 250 (dk_at dksX3_routeOf_4 3 rfl rfl)
theorem dX3_routeOf_114 : decode cX3_routeOf 114 = .ok (.ireturn, 1) := dk_172 (dk_at dksX3_routeOf_4 6 rfl rfl)
theorem dX3_routeOf_115 : decode cX3_routeOf 115 = .ok (.aload_n 0, 1) := dk_42 (dk_at dksX3_routeOf_4 7 rfl rfl)
theorem dX3_routeOf_116 : decode cX3_routeOf 116 = .ok (.iload_n 1, 1) := dk_27 (dk_at dksX3_routeOf_4 8 rfl rfl)
theorem dX3_routeOf_117 : decode cX3_routeOf 117 = .ok (.invokevirtual 253, 3) := dk_182 0 253 (dk_at dksX3_routeOf_4 9 rfl rfl)
theorem dX3_routeOf_120 : decode cX3_routeOf 120 = .ok (.ireturn, 1) := dk_172 (dk_at dksX3_routeOf_4 12 rfl rfl)
theorem dX3_routeOf_121 : decode cX3_routeOf 121 = .ok (.aload_n 0, 1) := dk_42 (dk_at dksX3_routeOf_4 13 rfl rfl)
theorem dX3_routeOf_122 : decode cX3_routeOf 122 = .ok (.iload_n 1, 1) := dk_27 (dk_at dksX3_routeOf_4 14 rfl rfl)
theorem dX3_routeOf_123 : decode cX3_routeOf 123 = .ok (.invokevirtual 256, 3) := dk_182 1 0 (dk_at dksX3_routeOf_4 15 rfl rfl)
theorem dX3_routeOf_126 : decode cX3_routeOf 126 = .ok (.ireturn, 1) := dk_172 (dk_at dksX3_routeOf_4 18 rfl rfl)
theorem dX3_routeOf_127 : decode cX3_routeOf 127 = .ok (.aload_n 0, 1) := dk_42 (dk_at dksX3_routeOf_4 19 rfl rfl)
theorem dX3_routeOf_128 : decode cX3_routeOf 128 = .ok (.iload_n 1, 1) := dk_27 (dk_at dksX3_routeOf_4 20 rfl rfl)
theorem dX3_routeOf_129 : decode cX3_routeOf 129 = .ok (.iload_n 2, 1) := dk_28 (dk_at dksX3_routeOf_4 21 rfl rfl)
theorem dX3_routeOf_130 : decode cX3_routeOf 130 = .ok (.bipush 10, 2) := dk_16 10 (dk_at dksX3_routeOf_4 22 rfl rfl)
theorem dX3_routeOf_132 : decode cX3_routeOf 132 = .ok (.isub, 1) := dk_100 (dk_at dksX3_routeOf_5 0 rfl rfl)
theorem dX3_routeOf_133 : decode cX3_routeOf 133 = .ok (.invokevirtual 237, 3) := dk_182 0 237 (dk_at dksX3_routeOf_5 1 rfl rfl)
theorem dX3_routeOf_136 : decode cX3_routeOf 136 = .ok (.ireturn, 1) := dk_172 (dk_at dksX3_routeOf_5 4 rfl rfl)
abbrev cX3_greatestHard : ByteArray := prog_26_method_15_code
def yX3_greatestHard : MethodName := ⟨RX3, "greatestHard", "(I)I"⟩
def dkwX3_greatestHard_1 : List UInt8 := [46, 54, 4, 21, 4, 28, 164, 0, 8, 21, 4, 167, 0, 4, 28, 61, 132, 3, 1, 167, 255, 217, 28, 172]
abbrev dktX3_greatestHard_1 : List UInt8 := dkwX3_greatestHard_1 ++ []
def dkwX3_greatestHard_0 : List UInt8 := [3, 61, 3, 62, 29, 42, 180, 0, 32, 27, 46, 162, 0, 35, 42, 180, 0, 25, 42, 27, 29, 182, 0, 237]
abbrev dktX3_greatestHard_0 : List UInt8 := dkwX3_greatestHard_0 ++ dktX3_greatestHard_1
theorem dksX3_greatestHard_0 : cX3_greatestHard.data.toList.drop 0 = dktX3_greatestHard_0 := by decide +kernel
theorem dksX3_greatestHard_1 : cX3_greatestHard.data.toList.drop 24 = dktX3_greatestHard_1 := dk_seg dksX3_greatestHard_0 24 rfl rfl
theorem dX3_greatestHard_0 : decode cX3_greatestHard 0 = .ok (.iconst 0, 1) := dk_3 (dk_at dksX3_greatestHard_0 0 rfl rfl)
theorem dX3_greatestHard_1 : decode cX3_greatestHard 1 = .ok (.istore_n 2, 1) := dk_61 (dk_at dksX3_greatestHard_0 1 rfl rfl)
theorem dX3_greatestHard_2 : decode cX3_greatestHard 2 = .ok (.iconst 0, 1) := dk_3 (dk_at dksX3_greatestHard_0 2 rfl rfl)
theorem dX3_greatestHard_3 : decode cX3_greatestHard 3 = .ok (.istore_n 3, 1) := dk_62 (dk_at dksX3_greatestHard_0 3 rfl rfl)
theorem dX3_greatestHard_4 : decode cX3_greatestHard 4 = .ok (.iload_n 3, 1) := dk_29 (dk_at dksX3_greatestHard_0 4 rfl rfl)
theorem dX3_greatestHard_5 : decode cX3_greatestHard 5 = .ok (.aload_n 0, 1) := dk_42 (dk_at dksX3_greatestHard_0 5 rfl rfl)
theorem dX3_greatestHard_6 : decode cX3_greatestHard 6 = .ok (.getfield 32, 3) := dk_180 0 32 (dk_at dksX3_greatestHard_0 6 rfl rfl)
theorem dX3_greatestHard_9 : decode cX3_greatestHard 9 = .ok (.iload_n 1, 1) := dk_27 (dk_at dksX3_greatestHard_0 9 rfl rfl)
theorem dX3_greatestHard_10 : decode cX3_greatestHard 10 = .ok (.iaload, 1) := dk_46 (dk_at dksX3_greatestHard_0 10 rfl rfl)
theorem dX3_greatestHard_11 : decode cX3_greatestHard 11 = .ok (.if_icmp .ge 35, 3) := dk_162 0 35 (dk_at dksX3_greatestHard_0 11 rfl rfl)
theorem dX3_greatestHard_14 : decode cX3_greatestHard 14 = .ok (.aload_n 0, 1) := dk_42 (dk_at dksX3_greatestHard_0 14 rfl rfl)
theorem dX3_greatestHard_15 : decode cX3_greatestHard 15 = .ok (.getfield 25, 3) := dk_180 0 25 (dk_at dksX3_greatestHard_0 15 rfl rfl)
theorem dX3_greatestHard_18 : decode cX3_greatestHard 18 = .ok (.aload_n 0, 1) := dk_42 (dk_at dksX3_greatestHard_0 18 rfl rfl)
theorem dX3_greatestHard_19 : decode cX3_greatestHard 19 = .ok (.iload_n 1, 1) := dk_27 (dk_at dksX3_greatestHard_0 19 rfl rfl)
theorem dX3_greatestHard_20 : decode cX3_greatestHard 20 = .ok (.iload_n 3, 1) := dk_29 (dk_at dksX3_greatestHard_0 20 rfl rfl)
theorem dX3_greatestHard_21 : decode cX3_greatestHard 21 = .ok (.invokevirtual 237, 3) := dk_182 0 237 (dk_at dksX3_greatestHard_0 21 rfl rfl)
theorem dX3_greatestHard_24 : decode cX3_greatestHard 24 = .ok (.iaload, 1) := dk_46 (dk_at dksX3_greatestHard_1 0 rfl rfl)
theorem dX3_greatestHard_25 : decode cX3_greatestHard 25 = .ok (.istore 4, 2) := dk_54 4 (dk_at dksX3_greatestHard_1 1 rfl rfl)
theorem dX3_greatestHard_27 : decode cX3_greatestHard 27 = .ok (.iload 4, 2) := dk_21 4 (dk_at dksX3_greatestHard_1 3 rfl rfl)
theorem dX3_greatestHard_29 : decode cX3_greatestHard 29 = .ok (.iload_n 2, 1) := dk_28 (dk_at dksX3_greatestHard_1 5 rfl rfl)
theorem dX3_greatestHard_30 : decode cX3_greatestHard 30 = .ok (.if_icmp .le 8, 3) := dk_164 0 8 (dk_at dksX3_greatestHard_1 6 rfl rfl)
theorem dX3_greatestHard_33 : decode cX3_greatestHard 33 = .ok (.iload 4, 2) := dk_21 4 (dk_at dksX3_greatestHard_1 9 rfl rfl)
theorem dX3_greatestHard_35 : decode cX3_greatestHard 35 = .ok (.goto 4, 3) := dk_167 0 4 (dk_at dksX3_greatestHard_1 11 rfl rfl)
theorem dX3_greatestHard_38 : decode cX3_greatestHard 38 = .ok (.iload_n 2, 1) := dk_28 (dk_at dksX3_greatestHard_1 14 rfl rfl)
theorem dX3_greatestHard_39 : decode cX3_greatestHard 39 = .ok (.istore_n 2, 1) := dk_61 (dk_at dksX3_greatestHard_1 15 rfl rfl)
theorem dX3_greatestHard_40 : decode cX3_greatestHard 40 = .ok (.iinc 3 1, 3) := dk_132 3 1 (dk_at dksX3_greatestHard_1 16 rfl rfl)
theorem dX3_greatestHard_43 : decode cX3_greatestHard 43 = .ok (.goto (-39), 3) := dk_167 255 217 (dk_at dksX3_greatestHard_1 19 rfl rfl)
theorem dX3_greatestHard_46 : decode cX3_greatestHard 46 = .ok (.iload_n 2, 1) := dk_28 (dk_at dksX3_greatestHard_1 22 rfl rfl)
theorem dX3_greatestHard_47 : decode cX3_greatestHard 47 = .ok (.ireturn, 1) := dk_172 (dk_at dksX3_greatestHard_1 23 rfl rfl)
abbrev cX3_sumHard : ByteArray := prog_26_method_16_code
def yX3_sumHard : MethodName := ⟨RX3, "sumHard", "(I)I"⟩
def dkwX3_sumHard_1 : List UInt8 := [182, 0, 237, 46, 96, 61, 132, 3, 1, 167, 255, 229, 28, 172]
abbrev dktX3_sumHard_1 : List UInt8 := dkwX3_sumHard_1 ++ []
def dkwX3_sumHard_0 : List UInt8 := [3, 61, 3, 62, 29, 42, 180, 0, 32, 27, 46, 162, 0, 23, 28, 42, 180, 0, 25, 42, 27, 29]
abbrev dktX3_sumHard_0 : List UInt8 := dkwX3_sumHard_0 ++ dktX3_sumHard_1
theorem dksX3_sumHard_0 : cX3_sumHard.data.toList.drop 0 = dktX3_sumHard_0 := by decide +kernel
theorem dksX3_sumHard_1 : cX3_sumHard.data.toList.drop 22 = dktX3_sumHard_1 := dk_seg dksX3_sumHard_0 22 rfl rfl
theorem dX3_sumHard_0 : decode cX3_sumHard 0 = .ok (.iconst 0, 1) := dk_3 (dk_at dksX3_sumHard_0 0 rfl rfl)
theorem dX3_sumHard_1 : decode cX3_sumHard 1 = .ok (.istore_n 2, 1) := dk_61 (dk_at dksX3_sumHard_0 1 rfl rfl)
theorem dX3_sumHard_2 : decode cX3_sumHard 2 = .ok (.iconst 0, 1) := dk_3 (dk_at dksX3_sumHard_0 2 rfl rfl)
theorem dX3_sumHard_3 : decode cX3_sumHard 3 = .ok (.istore_n 3, 1) := dk_62 (dk_at dksX3_sumHard_0 3 rfl rfl)
theorem dX3_sumHard_4 : decode cX3_sumHard 4 = .ok (.iload_n 3, 1) := dk_29 (dk_at dksX3_sumHard_0 4 rfl rfl)
theorem dX3_sumHard_5 : decode cX3_sumHard 5 = .ok (.aload_n 0, 1) := dk_42 (dk_at dksX3_sumHard_0 5 rfl rfl)
theorem dX3_sumHard_6 : decode cX3_sumHard 6 = .ok (.getfield 32, 3) := dk_180 0 32 (dk_at dksX3_sumHard_0 6 rfl rfl)
theorem dX3_sumHard_9 : decode cX3_sumHard 9 = .ok (.iload_n 1, 1) := dk_27 (dk_at dksX3_sumHard_0 9 rfl rfl)
theorem dX3_sumHard_10 : decode cX3_sumHard 10 = .ok (.iaload, 1) := dk_46 (dk_at dksX3_sumHard_0 10 rfl rfl)
theorem dX3_sumHard_11 : decode cX3_sumHard 11 = .ok (.if_icmp .ge 23, 3) := dk_162 0 23 (dk_at dksX3_sumHard_0 11 rfl rfl)
theorem dX3_sumHard_14 : decode cX3_sumHard 14 = .ok (.iload_n 2, 1) := dk_28 (dk_at dksX3_sumHard_0 14 rfl rfl)
theorem dX3_sumHard_15 : decode cX3_sumHard 15 = .ok (.aload_n 0, 1) := dk_42 (dk_at dksX3_sumHard_0 15 rfl rfl)
theorem dX3_sumHard_16 : decode cX3_sumHard 16 = .ok (.getfield 25, 3) := dk_180 0 25 (dk_at dksX3_sumHard_0 16 rfl rfl)
theorem dX3_sumHard_19 : decode cX3_sumHard 19 = .ok (.aload_n 0, 1) := dk_42 (dk_at dksX3_sumHard_0 19 rfl rfl)
theorem dX3_sumHard_20 : decode cX3_sumHard 20 = .ok (.iload_n 1, 1) := dk_27 (dk_at dksX3_sumHard_0 20 rfl rfl)
theorem dX3_sumHard_21 : decode cX3_sumHard 21 = .ok (.iload_n 3, 1) := dk_29 (dk_at dksX3_sumHard_0 21 rfl rfl)
theorem dX3_sumHard_22 : decode cX3_sumHard 22 = .ok (.invokevirtual 237, 3) := dk_182 0 237 (dk_at dksX3_sumHard_1 0 rfl rfl)
theorem dX3_sumHard_25 : decode cX3_sumHard 25 = .ok (.iaload, 1) := dk_46 (dk_at dksX3_sumHard_1 3 rfl rfl)
theorem dX3_sumHard_26 : decode cX3_sumHard 26 = .ok (.iadd, 1) := dk_96 (dk_at dksX3_sumHard_1 4 rfl rfl)
theorem dX3_sumHard_27 : decode cX3_sumHard 27 = .ok (.istore_n 2, 1) := dk_61 (dk_at dksX3_sumHard_1 5 rfl rfl)
theorem dX3_sumHard_28 : decode cX3_sumHard 28 = .ok (.iinc 3 1, 3) := dk_132 3 1 (dk_at dksX3_sumHard_1 6 rfl rfl)
theorem dX3_sumHard_31 : decode cX3_sumHard 31 = .ok (.goto (-27), 3) := dk_167 255 229 (dk_at dksX3_sumHard_1 9 rfl rfl)
theorem dX3_sumHard_34 : decode cX3_sumHard 34 = .ok (.iload_n 2, 1) := dk_28 (dk_at dksX3_sumHard_1 12 rfl rfl)
theorem dX3_sumHard_35 : decode cX3_sumHard 35 = .ok (.ireturn, 1) := dk_172 (dk_at dksX3_sumHard_1 13 rfl rfl)
abbrev cX3_sumLength : ByteArray := prog_26_method_17_code
def yX3_sumLength : MethodName := ⟨RX3, "sumLength", "(I)I"⟩
def dkwX3_sumLength_1 : List UInt8 := [182, 0, 237, 46, 96, 61, 132, 3, 1, 167, 255, 229, 28, 172]
abbrev dktX3_sumLength_1 : List UInt8 := dkwX3_sumLength_1 ++ []
def dkwX3_sumLength_0 : List UInt8 := [3, 61, 3, 62, 29, 42, 180, 0, 32, 27, 46, 162, 0, 23, 28, 42, 180, 0, 22, 42, 27, 29]
abbrev dktX3_sumLength_0 : List UInt8 := dkwX3_sumLength_0 ++ dktX3_sumLength_1
theorem dksX3_sumLength_0 : cX3_sumLength.data.toList.drop 0 = dktX3_sumLength_0 := by decide +kernel
theorem dksX3_sumLength_1 : cX3_sumLength.data.toList.drop 22 = dktX3_sumLength_1 := dk_seg dksX3_sumLength_0 22 rfl rfl
theorem dX3_sumLength_0 : decode cX3_sumLength 0 = .ok (.iconst 0, 1) := dk_3 (dk_at dksX3_sumLength_0 0 rfl rfl)
theorem dX3_sumLength_1 : decode cX3_sumLength 1 = .ok (.istore_n 2, 1) := dk_61 (dk_at dksX3_sumLength_0 1 rfl rfl)
theorem dX3_sumLength_2 : decode cX3_sumLength 2 = .ok (.iconst 0, 1) := dk_3 (dk_at dksX3_sumLength_0 2 rfl rfl)
theorem dX3_sumLength_3 : decode cX3_sumLength 3 = .ok (.istore_n 3, 1) := dk_62 (dk_at dksX3_sumLength_0 3 rfl rfl)
theorem dX3_sumLength_4 : decode cX3_sumLength 4 = .ok (.iload_n 3, 1) := dk_29 (dk_at dksX3_sumLength_0 4 rfl rfl)
theorem dX3_sumLength_5 : decode cX3_sumLength 5 = .ok (.aload_n 0, 1) := dk_42 (dk_at dksX3_sumLength_0 5 rfl rfl)
theorem dX3_sumLength_6 : decode cX3_sumLength 6 = .ok (.getfield 32, 3) := dk_180 0 32 (dk_at dksX3_sumLength_0 6 rfl rfl)
theorem dX3_sumLength_9 : decode cX3_sumLength 9 = .ok (.iload_n 1, 1) := dk_27 (dk_at dksX3_sumLength_0 9 rfl rfl)
theorem dX3_sumLength_10 : decode cX3_sumLength 10 = .ok (.iaload, 1) := dk_46 (dk_at dksX3_sumLength_0 10 rfl rfl)
theorem dX3_sumLength_11 : decode cX3_sumLength 11 = .ok (.if_icmp .ge 23, 3) := dk_162 0 23 (dk_at dksX3_sumLength_0 11 rfl rfl)
theorem dX3_sumLength_14 : decode cX3_sumLength 14 = .ok (.iload_n 2, 1) := dk_28 (dk_at dksX3_sumLength_0 14 rfl rfl)
theorem dX3_sumLength_15 : decode cX3_sumLength 15 = .ok (.aload_n 0, 1) := dk_42 (dk_at dksX3_sumLength_0 15 rfl rfl)
theorem dX3_sumLength_16 : decode cX3_sumLength 16 = .ok (.getfield 22, 3) := dk_180 0 22 (dk_at dksX3_sumLength_0 16 rfl rfl)
theorem dX3_sumLength_19 : decode cX3_sumLength 19 = .ok (.aload_n 0, 1) := dk_42 (dk_at dksX3_sumLength_0 19 rfl rfl)
theorem dX3_sumLength_20 : decode cX3_sumLength 20 = .ok (.iload_n 1, 1) := dk_27 (dk_at dksX3_sumLength_0 20 rfl rfl)
theorem dX3_sumLength_21 : decode cX3_sumLength 21 = .ok (.iload_n 3, 1) := dk_29 (dk_at dksX3_sumLength_0 21 rfl rfl)
theorem dX3_sumLength_22 : decode cX3_sumLength 22 = .ok (.invokevirtual 237, 3) := dk_182 0 237 (dk_at dksX3_sumLength_1 0 rfl rfl)
theorem dX3_sumLength_25 : decode cX3_sumLength 25 = .ok (.iaload, 1) := dk_46 (dk_at dksX3_sumLength_1 3 rfl rfl)
theorem dX3_sumLength_26 : decode cX3_sumLength 26 = .ok (.iadd, 1) := dk_96 (dk_at dksX3_sumLength_1 4 rfl rfl)
theorem dX3_sumLength_27 : decode cX3_sumLength 27 = .ok (.istore_n 2, 1) := dk_61 (dk_at dksX3_sumLength_1 5 rfl rfl)
theorem dX3_sumLength_28 : decode cX3_sumLength 28 = .ok (.iinc 3 1, 3) := dk_132 3 1 (dk_at dksX3_sumLength_1 6 rfl rfl)
theorem dX3_sumLength_31 : decode cX3_sumLength 31 = .ok (.goto (-27), 3) := dk_167 255 229 (dk_at dksX3_sumLength_1 9 rfl rfl)
theorem dX3_sumLength_34 : decode cX3_sumLength 34 = .ok (.iload_n 2, 1) := dk_28 (dk_at dksX3_sumLength_1 12 rfl rfl)
theorem dX3_sumLength_35 : decode cX3_sumLength 35 = .ok (.ireturn, 1) := dk_172 (dk_at dksX3_sumLength_1 13 rfl rfl)
abbrev cX3_sheet : ByteArray := prog_26_method_19_code
def yX3_sheet : MethodName := ⟨RX3, "sheet", "(III)I"⟩
def dkwX3_sheet_3 : List UInt8 := [21, 4, 96, 3, 79, 132, 4, 1, 167, 255, 233, 4, 172]
abbrev dktX3_sheet_3 : List UInt8 := dkwX3_sheet_3 ++ []
def dkwX3_sheet_2 : List UInt8 := [180, 0, 41, 27, 29, 79, 3, 54, 4, 21, 4, 16, 24, 162, 0, 22, 42, 180, 0, 44, 16, 24, 27, 104]
abbrev dktX3_sheet_2 : List UInt8 := dkwX3_sheet_2 ++ dktX3_sheet_3
def dkwX3_sheet_1 : List UInt8 := [29, 16, 24, 164, 0, 5, 2, 172, 29, 156, 0, 6, 16, 242, 172, 42, 180, 0, 38, 27, 28, 79, 42]
abbrev dktX3_sheet_1 : List UInt8 := dkwX3_sheet_1 ++ dktX3_sheet_2
def dkwX3_sheet_0 : List UInt8 := [27, 133, 9, 20, 1, 3, 184, 0, 214, 153, 0, 21, 28, 133, 9, 20, 1, 5, 184, 0, 214, 153, 0, 9]
abbrev dktX3_sheet_0 : List UInt8 := dkwX3_sheet_0 ++ dktX3_sheet_1
theorem dksX3_sheet_0 : cX3_sheet.data.toList.drop 0 = dktX3_sheet_0 := by decide +kernel
theorem dksX3_sheet_1 : cX3_sheet.data.toList.drop 24 = dktX3_sheet_1 := dk_seg dksX3_sheet_0 24 rfl rfl
theorem dksX3_sheet_2 : cX3_sheet.data.toList.drop 47 = dktX3_sheet_2 := dk_seg dksX3_sheet_1 23 rfl rfl
theorem dksX3_sheet_3 : cX3_sheet.data.toList.drop 71 = dktX3_sheet_3 := dk_seg dksX3_sheet_2 24 rfl rfl
theorem dX3_sheet_0 : decode cX3_sheet 0 = .ok (.iload_n 1, 1) := dk_27 (dk_at dksX3_sheet_0 0 rfl rfl)
theorem dX3_sheet_1 : decode cX3_sheet 1 = .ok (.i2l, 1) := dk_133 (dk_at dksX3_sheet_0 1 rfl rfl)
theorem dX3_sheet_2 : decode cX3_sheet 2 = .ok (.lconst 0, 1) := dk_9 (dk_at dksX3_sheet_0 2 rfl rfl)
theorem dX3_sheet_3 : decode cX3_sheet 3 = .ok (.ldc2_w 259, 3) := dk_20 1 3 (dk_at dksX3_sheet_0 3 rfl rfl)
theorem dX3_sheet_6 : decode cX3_sheet 6 = .ok (.invokestatic 214, 3) := dk_184 0 214 (dk_at dksX3_sheet_0 6 rfl rfl)
theorem dX3_sheet_9 : decode cX3_sheet 9 = .ok (.ifCond .eq 21, 3) := dk_153 0 21 (dk_at dksX3_sheet_0 9 rfl rfl)
theorem dX3_sheet_12 : decode cX3_sheet 12 = .ok (.iload_n 2, 1) := dk_28 (dk_at dksX3_sheet_0 12 rfl rfl)
theorem dX3_sheet_13 : decode cX3_sheet 13 = .ok (.i2l, 1) := dk_133 (dk_at dksX3_sheet_0 13 rfl rfl)
theorem dX3_sheet_14 : decode cX3_sheet 14 = .ok (.lconst 0, 1) := dk_9 (dk_at dksX3_sheet_0 14 rfl rfl)
theorem dX3_sheet_15 : decode cX3_sheet 15 = .ok (.ldc2_w 261, 3) := dk_20 1 5 (dk_at dksX3_sheet_0 15 rfl rfl)
theorem dX3_sheet_18 : decode cX3_sheet 18 = .ok (.invokestatic 214, 3) := dk_184 0 214 (dk_at dksX3_sheet_0 18 rfl rfl)
theorem dX3_sheet_21 : decode cX3_sheet 21 = .ok (.ifCond .eq 9, 3) := dk_153 0 9 (dk_at dksX3_sheet_0 21 rfl rfl)
theorem dX3_sheet_24 : decode cX3_sheet 24 = .ok (.iload_n 3, 1) := dk_29 (dk_at dksX3_sheet_1 0 rfl rfl)
theorem dX3_sheet_25 : decode cX3_sheet 25 = .ok (.bipush 24, 2) := dk_16 24 (dk_at dksX3_sheet_1 1 rfl rfl)
theorem dX3_sheet_27 : decode cX3_sheet 27 = .ok (.if_icmp .le 5, 3) := dk_164 0 5 (dk_at dksX3_sheet_1 3 rfl rfl)
theorem dX3_sheet_30 : decode cX3_sheet 30 = .ok (.iconst (-1), 1) := dk_2 (dk_at dksX3_sheet_1 6 rfl rfl)
theorem dX3_sheet_31 : decode cX3_sheet 31 = .ok (.ireturn, 1) := dk_172 (dk_at dksX3_sheet_1 7 rfl rfl)
theorem dX3_sheet_32 : decode cX3_sheet 32 = .ok (.iload_n 3, 1) := dk_29 (dk_at dksX3_sheet_1 8 rfl rfl)
theorem dX3_sheet_33 : decode cX3_sheet 33 = .ok (.ifCond .ge 6, 3) := dk_156 0 6 (dk_at dksX3_sheet_1 9 rfl rfl)
theorem dX3_sheet_36 : decode cX3_sheet 36 = .ok (.bipush (-14), 2) := dk_16 242 (dk_at dksX3_sheet_1 12 rfl rfl)
theorem dX3_sheet_38 : decode cX3_sheet 38 = .ok (.ireturn, 1) := dk_172 (dk_at dksX3_sheet_1 14 rfl rfl)
theorem dX3_sheet_39 : decode cX3_sheet 39 = .ok (.aload_n 0, 1) := dk_42 (dk_at dksX3_sheet_1 15 rfl rfl)
theorem dX3_sheet_40 : decode cX3_sheet 40 = .ok (.getfield 38, 3) := dk_180 0 38 (dk_at dksX3_sheet_1 16 rfl rfl)
theorem dX3_sheet_43 : decode cX3_sheet 43 = .ok (.iload_n 1, 1) := dk_27 (dk_at dksX3_sheet_1 19 rfl rfl)
theorem dX3_sheet_44 : decode cX3_sheet 44 = .ok (.iload_n 2, 1) := dk_28 (dk_at dksX3_sheet_1 20 rfl rfl)
theorem dX3_sheet_45 : decode cX3_sheet 45 = .ok (.iastore, 1) := dk_79 (dk_at dksX3_sheet_1 21 rfl rfl)
theorem dX3_sheet_46 : decode cX3_sheet 46 = .ok (.aload_n 0, 1) := dk_42 (dk_at dksX3_sheet_1 22 rfl rfl)
theorem dX3_sheet_47 : decode cX3_sheet 47 = .ok (.getfield 41, 3) := dk_180 0 41 (dk_at dksX3_sheet_2 0 rfl rfl)
theorem dX3_sheet_50 : decode cX3_sheet 50 = .ok (.iload_n 1, 1) := dk_27 (dk_at dksX3_sheet_2 3 rfl rfl)
theorem dX3_sheet_51 : decode cX3_sheet 51 = .ok (.iload_n 3, 1) := dk_29 (dk_at dksX3_sheet_2 4 rfl rfl)
theorem dX3_sheet_52 : decode cX3_sheet 52 = .ok (.iastore, 1) := dk_79 (dk_at dksX3_sheet_2 5 rfl rfl)
theorem dX3_sheet_53 : decode cX3_sheet 53 = .ok (.iconst 0, 1) := dk_3 (dk_at dksX3_sheet_2 6 rfl rfl)
theorem dX3_sheet_54 : decode cX3_sheet 54 = .ok (.istore 4, 2) := dk_54 4 (dk_at dksX3_sheet_2 7 rfl rfl)
theorem dX3_sheet_56 : decode cX3_sheet 56 = .ok (.iload 4, 2) := dk_21 4 (dk_at dksX3_sheet_2 9 rfl rfl)
theorem dX3_sheet_58 : decode cX3_sheet 58 = .ok (.bipush 24, 2) := dk_16 24 (dk_at dksX3_sheet_2 11 rfl rfl)
theorem dX3_sheet_60 : decode cX3_sheet 60 = .ok (.if_icmp .ge 22, 3) := dk_162 0 22 (dk_at dksX3_sheet_2 13 rfl rfl)
theorem dX3_sheet_63 : decode cX3_sheet 63 = .ok (.aload_n 0, 1) := dk_42 (dk_at dksX3_sheet_2 16 rfl rfl)
theorem dX3_sheet_64 : decode cX3_sheet 64 = .ok (.getfield 44, 3) := dk_180 0 44 (dk_at dksX3_sheet_2 17 rfl rfl)
theorem dX3_sheet_67 : decode cX3_sheet 67 = .ok (.bipush 24, 2) := dk_16 24 (dk_at dksX3_sheet_2 20 rfl rfl)
theorem dX3_sheet_69 : decode cX3_sheet 69 = .ok (.iload_n 1, 1) := dk_27 (dk_at dksX3_sheet_2 22 rfl rfl)
theorem dX3_sheet_70 : decode cX3_sheet 70 = .ok (.imul, 1) := dk_104 (dk_at dksX3_sheet_2 23 rfl rfl)
theorem dX3_sheet_71 : decode cX3_sheet 71 = .ok (.iload 4, 2) := dk_21 4 (dk_at dksX3_sheet_3 0 rfl rfl)
theorem dX3_sheet_73 : decode cX3_sheet 73 = .ok (.iadd, 1) := dk_96 (dk_at dksX3_sheet_3 2 rfl rfl)
theorem dX3_sheet_74 : decode cX3_sheet 74 = .ok (.iconst 0, 1) := dk_3 (dk_at dksX3_sheet_3 3 rfl rfl)
theorem dX3_sheet_75 : decode cX3_sheet 75 = .ok (.iastore, 1) := dk_79 (dk_at dksX3_sheet_3 4 rfl rfl)
theorem dX3_sheet_76 : decode cX3_sheet 76 = .ok (.iinc 4 1, 3) := dk_132 4 1 (dk_at dksX3_sheet_3 5 rfl rfl)
theorem dX3_sheet_79 : decode cX3_sheet 79 = .ok (.goto (-23), 3) := dk_167 255 233 (dk_at dksX3_sheet_3 8 rfl rfl)
theorem dX3_sheet_82 : decode cX3_sheet 82 = .ok (.iconst 1, 1) := dk_4 (dk_at dksX3_sheet_3 11 rfl rfl)
theorem dX3_sheet_83 : decode cX3_sheet 83 = .ok (.ireturn, 1) := dk_172 (dk_at dksX3_sheet_3 12 rfl rfl)
abbrev cX3_lay : ByteArray := prog_26_method_20_code
def yX3_lay : MethodName := ⟨RX3, "lay", "(III)I"⟩
def dkwX3_lay_4 : List UInt8 := [4, 172]
abbrev dktX3_lay_4 : List UInt8 := dkwX3_lay_4 ++ []
def dkwX3_lay_3 : List UInt8 := [16, 100, 108, 167, 0, 20, 42, 180, 0, 38, 27, 46, 4, 160, 0, 8, 29, 147, 167, 0, 5, 29, 145, 79]
abbrev dktX3_lay_3 : List UInt8 := dkwX3_lay_3 ++ dktX3_lay_4
def dkwX3_lay_2 : List UInt8 := [16, 244, 172, 42, 180, 0, 44, 16, 24, 27, 104, 28, 96, 42, 180, 0, 38, 27, 46, 154, 0, 10, 29]
abbrev dktX3_lay_2 : List UInt8 := dkwX3_lay_2 ++ dktX3_lay_3
def dkwX3_lay_1 : List UInt8 := [160, 0, 6, 16, 245, 172, 28, 133, 9, 42, 180, 0, 41, 27, 46, 4, 100, 133, 184, 0, 214, 154, 0, 6]
abbrev dktX3_lay_1 : List UInt8 := dkwX3_lay_1 ++ dktX3_lay_2
def dkwX3_lay_0 : List UInt8 := [27, 133, 9, 20, 1, 3, 184, 0, 214, 154, 0, 5, 2, 172, 42, 180, 0, 38, 27, 46, 16, 252]
abbrev dktX3_lay_0 : List UInt8 := dkwX3_lay_0 ++ dktX3_lay_1
theorem dksX3_lay_0 : cX3_lay.data.toList.drop 0 = dktX3_lay_0 := by decide +kernel
theorem dksX3_lay_1 : cX3_lay.data.toList.drop 22 = dktX3_lay_1 := dk_seg dksX3_lay_0 22 rfl rfl
theorem dksX3_lay_2 : cX3_lay.data.toList.drop 46 = dktX3_lay_2 := dk_seg dksX3_lay_1 24 rfl rfl
theorem dksX3_lay_3 : cX3_lay.data.toList.drop 69 = dktX3_lay_3 := dk_seg dksX3_lay_2 23 rfl rfl
theorem dksX3_lay_4 : cX3_lay.data.toList.drop 93 = dktX3_lay_4 := dk_seg dksX3_lay_3 24 rfl rfl
theorem dX3_lay_0 : decode cX3_lay 0 = .ok (.iload_n 1, 1) := dk_27 (dk_at dksX3_lay_0 0 rfl rfl)
theorem dX3_lay_1 : decode cX3_lay 1 = .ok (.i2l, 1) := dk_133 (dk_at dksX3_lay_0 1 rfl rfl)
theorem dX3_lay_2 : decode cX3_lay 2 = .ok (.lconst 0, 1) := dk_9 (dk_at dksX3_lay_0 2 rfl rfl)
theorem dX3_lay_3 : decode cX3_lay 3 = .ok (.ldc2_w 259, 3) := dk_20 1 3 (dk_at dksX3_lay_0 3 rfl rfl)
theorem dX3_lay_6 : decode cX3_lay 6 = .ok (.invokestatic 214, 3) := dk_184 0 214 (dk_at dksX3_lay_0 6 rfl rfl)
theorem dX3_lay_9 : decode cX3_lay 9 = .ok (.ifCond .ne 5, 3) := dk_154 0 5 (dk_at dksX3_lay_0 9 rfl rfl)
theorem dX3_lay_12 : decode cX3_lay 12 = .ok (.iconst (-1), 1) := dk_2 (dk_at dksX3_lay_0 12 rfl rfl)
theorem dX3_lay_13 : decode cX3_lay 13 = .ok (.ireturn, 1) := dk_172 (dk_at dksX3_lay_0 13 rfl rfl)
theorem dX3_lay_14 : decode cX3_lay 14 = .ok (.aload_n 0, 1) := dk_42 (dk_at dksX3_lay_0 14 rfl rfl)
theorem dX3_lay_15 : decode cX3_lay 15 = .ok (.getfield 38, 3) := dk_180 0 38 (dk_at dksX3_lay_0 15 rfl rfl)
theorem dX3_lay_18 : decode cX3_lay 18 = .ok (.iload_n 1, 1) := dk_27 (dk_at dksX3_lay_0 18 rfl rfl)
theorem dX3_lay_19 : decode cX3_lay 19 = .ok (.iaload, 1) := dk_46 (dk_at dksX3_lay_0 19 rfl rfl)
theorem dX3_lay_20 : decode cX3_lay 20 = .ok (.bipush (-4), 2) := dk_16 252 (dk_at dksX3_lay_0 20 rfl rfl)
theorem dX3_lay_22 : decode cX3_lay 22 = .ok (.if_icmp .ne 6, 3) := dk_160 0 6 (dk_at dksX3_lay_1 0 rfl rfl)
theorem dX3_lay_25 : decode cX3_lay 25 = .ok (.bipush (-11), 2) := dk_16 245 (dk_at dksX3_lay_1 3 rfl rfl)
theorem dX3_lay_27 : decode cX3_lay 27 = .ok (.ireturn, 1) := dk_172 (dk_at dksX3_lay_1 5 rfl rfl)
theorem dX3_lay_28 : decode cX3_lay 28 = .ok (.iload_n 2, 1) := dk_28 (dk_at dksX3_lay_1 6 rfl rfl)
theorem dX3_lay_29 : decode cX3_lay 29 = .ok (.i2l, 1) := dk_133 (dk_at dksX3_lay_1 7 rfl rfl)
theorem dX3_lay_30 : decode cX3_lay 30 = .ok (.lconst 0, 1) := dk_9 (dk_at dksX3_lay_1 8 rfl rfl)
theorem dX3_lay_31 : decode cX3_lay 31 = .ok (.aload_n 0, 1) := dk_42 (dk_at dksX3_lay_1 9 rfl rfl)
theorem dX3_lay_32 : decode cX3_lay 32 = .ok (.getfield 41, 3) := dk_180 0 41 (dk_at dksX3_lay_1 10 rfl rfl)
theorem dX3_lay_35 : decode cX3_lay 35 = .ok (.iload_n 1, 1) := dk_27 (dk_at dksX3_lay_1 13 rfl rfl)
theorem dX3_lay_36 : decode cX3_lay 36 = .ok (.iaload, 1) := dk_46 (dk_at dksX3_lay_1 14 rfl rfl)
theorem dX3_lay_37 : decode cX3_lay 37 = .ok (.iconst 1, 1) := dk_4 (dk_at dksX3_lay_1 15 rfl rfl)
theorem dX3_lay_38 : decode cX3_lay 38 = .ok (.isub, 1) := dk_100 (dk_at dksX3_lay_1 16 rfl rfl)
theorem dX3_lay_39 : decode cX3_lay 39 = .ok (.i2l, 1) := dk_133 (dk_at dksX3_lay_1 17 rfl rfl)
theorem dX3_lay_40 : decode cX3_lay 40 = .ok (.invokestatic 214, 3) := dk_184 0 214 (dk_at dksX3_lay_1 18 rfl rfl)
theorem dX3_lay_43 : decode cX3_lay 43 = .ok (.ifCond .ne 6, 3) := dk_154 0 6 (dk_at dksX3_lay_1 21 rfl rfl)
theorem dX3_lay_46 : decode cX3_lay 46 = .ok (.bipush (-12), 2) := dk_16 244 (dk_at dksX3_lay_2 0 rfl rfl)
theorem dX3_lay_48 : decode cX3_lay 48 = .ok (.ireturn, 1) := dk_172 (dk_at dksX3_lay_2 2 rfl rfl)
theorem dX3_lay_49 : decode cX3_lay 49 = .ok (.aload_n 0, 1) := dk_42 (dk_at dksX3_lay_2 3 rfl rfl)
theorem dX3_lay_50 : decode cX3_lay 50 = .ok (.getfield 44, 3) := dk_180 0 44 (dk_at dksX3_lay_2 4 rfl rfl)
theorem dX3_lay_53 : decode cX3_lay 53 = .ok (.bipush 24, 2) := dk_16 24 (dk_at dksX3_lay_2 7 rfl rfl)
theorem dX3_lay_55 : decode cX3_lay 55 = .ok (.iload_n 1, 1) := dk_27 (dk_at dksX3_lay_2 9 rfl rfl)
theorem dX3_lay_56 : decode cX3_lay 56 = .ok (.imul, 1) := dk_104 (dk_at dksX3_lay_2 10 rfl rfl)
theorem dX3_lay_57 : decode cX3_lay 57 = .ok (.iload_n 2, 1) := dk_28 (dk_at dksX3_lay_2 11 rfl rfl)
theorem dX3_lay_58 : decode cX3_lay 58 = .ok (.iadd, 1) := dk_96 (dk_at dksX3_lay_2 12 rfl rfl)
theorem dX3_lay_59 : decode cX3_lay 59 = .ok (.aload_n 0, 1) := dk_42 (dk_at dksX3_lay_2 13 rfl rfl)
theorem dX3_lay_60 : decode cX3_lay 60 = .ok (.getfield 38, 3) := dk_180 0 38 (dk_at dksX3_lay_2 14 rfl rfl)
theorem dX3_lay_63 : decode cX3_lay 63 = .ok (.iload_n 1, 1) := dk_27 (dk_at dksX3_lay_2 17 rfl rfl)
theorem dX3_lay_64 : decode cX3_lay 64 = .ok (.iaload, 1) := dk_46 (dk_at dksX3_lay_2 18 rfl rfl)
theorem dX3_lay_65 : decode cX3_lay 65 = .ok (.ifCond .ne 10, 3) := dk_154 0 10 (dk_at dksX3_lay_2 19 rfl rfl)
theorem dX3_lay_68 : decode cX3_lay 68 = .ok (.iload_n 3, 1) := dk_29 (dk_at dksX3_lay_2 22 rfl rfl)
theorem dX3_lay_69 : decode cX3_lay 69 = .ok (.bipush 100, 2) := dk_16 100 (dk_at dksX3_lay_3 0 rfl rfl)
theorem dX3_lay_71 : decode cX3_lay 71 = .ok (.idiv, 1) := dk_108 (dk_at dksX3_lay_3 2 rfl rfl)
theorem dX3_lay_72 : decode cX3_lay 72 = .ok (.goto 20, 3) := dk_167 0 20 (dk_at dksX3_lay_3 3 rfl rfl)
theorem dX3_lay_75 : decode cX3_lay 75 = .ok (.aload_n 0, 1) := dk_42 (dk_at dksX3_lay_3 6 rfl rfl)
theorem dX3_lay_76 : decode cX3_lay 76 = .ok (.getfield 38, 3) := dk_180 0 38 (dk_at dksX3_lay_3 7 rfl rfl)
theorem dX3_lay_79 : decode cX3_lay 79 = .ok (.iload_n 1, 1) := dk_27 (dk_at dksX3_lay_3 10 rfl rfl)
theorem dX3_lay_80 : decode cX3_lay 80 = .ok (.iaload, 1) := dk_46 (dk_at dksX3_lay_3 11 rfl rfl)
theorem dX3_lay_81 : decode cX3_lay 81 = .ok (.iconst 1, 1) := dk_4 (dk_at dksX3_lay_3 12 rfl rfl)
theorem dX3_lay_82 : decode cX3_lay 82 = .ok (.if_icmp .ne 8, 3) := dk_160 0 8 (dk_at dksX3_lay_3 13 rfl rfl)
theorem dX3_lay_85 : decode cX3_lay 85 = .ok (.iload_n 3, 1) := dk_29 (dk_at dksX3_lay_3 16 rfl rfl)
theorem dX3_lay_86 : decode cX3_lay 86 = .ok (.i2s, 1) := dk_147 (dk_at dksX3_lay_3 17 rfl rfl)
theorem dX3_lay_87 : decode cX3_lay 87 = .ok (.goto 5, 3) := dk_167 0 5 (dk_at dksX3_lay_3 18 rfl rfl)
theorem dX3_lay_90 : decode cX3_lay 90 = .ok (.iload_n 3, 1) := dk_29 (dk_at dksX3_lay_3 21 rfl rfl)
theorem dX3_lay_91 : decode cX3_lay 91 = .ok (.i2b, 1) := dk_145 (dk_at dksX3_lay_3 22 rfl rfl)
theorem dX3_lay_92 : decode cX3_lay 92 = .ok (.iastore, 1) := dk_79 (dk_at dksX3_lay_3 23 rfl rfl)
theorem dX3_lay_93 : decode cX3_lay 93 = .ok (.iconst 1, 1) := dk_4 (dk_at dksX3_lay_4 0 rfl rfl)
theorem dX3_lay_94 : decode cX3_lay 94 = .ok (.ireturn, 1) := dk_172 (dk_at dksX3_lay_4 1 rfl rfl)
abbrev cX3_tear : ByteArray := prog_26_method_21_code
def yX3_tear : MethodName := ⟨RX3, "tear", "(I)I"⟩
def dkwX3_tear_1 : List UInt8 := [160, 0, 7, 3, 167, 0, 4, 4, 61, 42, 180, 0, 38, 27, 16, 252, 79, 28, 172]
abbrev dktX3_tear_1 : List UInt8 := dkwX3_tear_1 ++ []
def dkwX3_tear_0 : List UInt8 := [27, 133, 9, 20, 1, 3, 184, 0, 214, 154, 0, 5, 2, 172, 42, 180, 0, 38, 27, 46, 16, 252]
abbrev dktX3_tear_0 : List UInt8 := dkwX3_tear_0 ++ dktX3_tear_1
theorem dksX3_tear_0 : cX3_tear.data.toList.drop 0 = dktX3_tear_0 := by decide +kernel
theorem dksX3_tear_1 : cX3_tear.data.toList.drop 22 = dktX3_tear_1 := dk_seg dksX3_tear_0 22 rfl rfl
theorem dX3_tear_0 : decode cX3_tear 0 = .ok (.iload_n 1, 1) := dk_27 (dk_at dksX3_tear_0 0 rfl rfl)
theorem dX3_tear_1 : decode cX3_tear 1 = .ok (.i2l, 1) := dk_133 (dk_at dksX3_tear_0 1 rfl rfl)
theorem dX3_tear_2 : decode cX3_tear 2 = .ok (.lconst 0, 1) := dk_9 (dk_at dksX3_tear_0 2 rfl rfl)
theorem dX3_tear_3 : decode cX3_tear 3 = .ok (.ldc2_w 259, 3) := dk_20 1 3 (dk_at dksX3_tear_0 3 rfl rfl)
theorem dX3_tear_6 : decode cX3_tear 6 = .ok (.invokestatic 214, 3) := dk_184 0 214 (dk_at dksX3_tear_0 6 rfl rfl)
theorem dX3_tear_9 : decode cX3_tear 9 = .ok (.ifCond .ne 5, 3) := dk_154 0 5 (dk_at dksX3_tear_0 9 rfl rfl)
theorem dX3_tear_12 : decode cX3_tear 12 = .ok (.iconst (-1), 1) := dk_2 (dk_at dksX3_tear_0 12 rfl rfl)
theorem dX3_tear_13 : decode cX3_tear 13 = .ok (.ireturn, 1) := dk_172 (dk_at dksX3_tear_0 13 rfl rfl)
theorem dX3_tear_14 : decode cX3_tear 14 = .ok (.aload_n 0, 1) := dk_42 (dk_at dksX3_tear_0 14 rfl rfl)
theorem dX3_tear_15 : decode cX3_tear 15 = .ok (.getfield 38, 3) := dk_180 0 38 (dk_at dksX3_tear_0 15 rfl rfl)
theorem dX3_tear_18 : decode cX3_tear 18 = .ok (.iload_n 1, 1) := dk_27 (dk_at dksX3_tear_0 18 rfl rfl)
theorem dX3_tear_19 : decode cX3_tear 19 = .ok (.iaload, 1) := dk_46 (dk_at dksX3_tear_0 19 rfl rfl)
theorem dX3_tear_20 : decode cX3_tear 20 = .ok (.bipush (-4), 2) := dk_16 252 (dk_at dksX3_tear_0 20 rfl rfl)
theorem dX3_tear_22 : decode cX3_tear 22 = .ok (.if_icmp .ne 7, 3) := dk_160 0 7 (dk_at dksX3_tear_1 0 rfl rfl)
theorem dX3_tear_25 : decode cX3_tear 25 = .ok (.iconst 0, 1) := dk_3 (dk_at dksX3_tear_1 3 rfl rfl)
theorem dX3_tear_26 : decode cX3_tear 26 = .ok (.goto 4, 3) := dk_167 0 4 (dk_at dksX3_tear_1 4 rfl rfl)
theorem dX3_tear_29 : decode cX3_tear 29 = .ok (.iconst 1, 1) := dk_4 (dk_at dksX3_tear_1 7 rfl rfl)
theorem dX3_tear_30 : decode cX3_tear 30 = .ok (.istore_n 2, 1) := dk_61 (dk_at dksX3_tear_1 8 rfl rfl)
theorem dX3_tear_31 : decode cX3_tear 31 = .ok (.aload_n 0, 1) := dk_42 (dk_at dksX3_tear_1 9 rfl rfl)
theorem dX3_tear_32 : decode cX3_tear 32 = .ok (.getfield 38, 3) := dk_180 0 38 (dk_at dksX3_tear_1 10 rfl rfl)
theorem dX3_tear_35 : decode cX3_tear 35 = .ok (.iload_n 1, 1) := dk_27 (dk_at dksX3_tear_1 13 rfl rfl)
theorem dX3_tear_36 : decode cX3_tear 36 = .ok (.bipush (-4), 2) := dk_16 252 (dk_at dksX3_tear_1 14 rfl rfl)
theorem dX3_tear_38 : decode cX3_tear 38 = .ok (.iastore, 1) := dk_79 (dk_at dksX3_tear_1 16 rfl rfl)
theorem dX3_tear_39 : decode cX3_tear 39 = .ok (.iload_n 2, 1) := dk_28 (dk_at dksX3_tear_1 17 rfl rfl)
theorem dX3_tear_40 : decode cX3_tear 40 = .ok (.ireturn, 1) := dk_172 (dk_at dksX3_tear_1 18 rfl rfl)
abbrev cX3_weather : ByteArray := prog_26_method_24_code
def yX3_weather : MethodName := ⟨RX3, "weather", "(II)I"⟩
def dkwX3_weather_1 : List UInt8 := [42, 27, 28, 182, 1, 16, 167, 0, 4, 2, 172]
abbrev dktX3_weather_1 : List UInt8 := dkwX3_weather_1 ++ []
def dkwX3_weather_0 : List UInt8 := [27, 133, 9, 20, 1, 14, 184, 0, 214, 153, 0, 24, 28, 133, 9, 20, 1, 5, 184, 0, 214, 153, 0, 12]
abbrev dktX3_weather_0 : List UInt8 := dkwX3_weather_0 ++ dktX3_weather_1
theorem dksX3_weather_0 : cX3_weather.data.toList.drop 0 = dktX3_weather_0 := by decide +kernel
theorem dksX3_weather_1 : cX3_weather.data.toList.drop 24 = dktX3_weather_1 := dk_seg dksX3_weather_0 24 rfl rfl
theorem dX3_weather_0 : decode cX3_weather 0 = .ok (.iload_n 1, 1) := dk_27 (dk_at dksX3_weather_0 0 rfl rfl)
theorem dX3_weather_1 : decode cX3_weather 1 = .ok (.i2l, 1) := dk_133 (dk_at dksX3_weather_0 1 rfl rfl)
theorem dX3_weather_2 : decode cX3_weather 2 = .ok (.lconst 0, 1) := dk_9 (dk_at dksX3_weather_0 2 rfl rfl)
theorem dX3_weather_3 : decode cX3_weather 3 = .ok (.ldc2_w 270, 3) := dk_20 1 14 (dk_at dksX3_weather_0 3 rfl rfl)
theorem dX3_weather_6 : decode cX3_weather 6 = .ok (.invokestatic 214, 3) := dk_184 0 214 (dk_at dksX3_weather_0 6 rfl rfl)
theorem dX3_weather_9 : decode cX3_weather 9 = .ok (.ifCond .eq 24, 3) := dk_153 0 24 (dk_at dksX3_weather_0 9 rfl rfl)
theorem dX3_weather_12 : decode cX3_weather 12 = .ok (.iload_n 2, 1) := dk_28 (dk_at dksX3_weather_0 12 rfl rfl)
theorem dX3_weather_13 : decode cX3_weather 13 = .ok (.i2l, 1) := dk_133 (dk_at dksX3_weather_0 13 rfl rfl)
theorem dX3_weather_14 : decode cX3_weather 14 = .ok (.lconst 0, 1) := dk_9 (dk_at dksX3_weather_0 14 rfl rfl)
theorem dX3_weather_15 : decode cX3_weather 15 = .ok (.ldc2_w 261, 3) := dk_20 1 5 (dk_at dksX3_weather_0 15 rfl rfl)
theorem dX3_weather_18 : decode cX3_weather 18 = .ok (.invokestatic 214, 3) := dk_184 0 214 (dk_at dksX3_weather_0 18 rfl rfl)
theorem dX3_weather_21 : decode cX3_weather 21 = .ok (.ifCond .eq 12, 3) := dk_153 0 12 (dk_at dksX3_weather_0 21 rfl rfl)
theorem dX3_weather_24 : decode cX3_weather 24 = .ok (.aload_n 0, 1) := dk_42 (dk_at dksX3_weather_1 0 rfl rfl)
theorem dX3_weather_25 : decode cX3_weather 25 = .ok (.iload_n 1, 1) := dk_27 (dk_at dksX3_weather_1 1 rfl rfl)
theorem dX3_weather_26 : decode cX3_weather 26 = .ok (.iload_n 2, 1) := dk_28 (dk_at dksX3_weather_1 2 rfl rfl)
theorem dX3_weather_27 : decode cX3_weather 27 = .ok (.invokevirtual 272, 3) := dk_182 1 16 (dk_at dksX3_weather_1 3 rfl rfl)
theorem dX3_weather_30 : decode cX3_weather 30 = .ok (.goto 4, 3) := dk_167 0 4 (dk_at dksX3_weather_1 6 rfl rfl)
theorem dX3_weather_33 : decode cX3_weather 33 = .ok (.iconst (-1), 1) := dk_2 (dk_at dksX3_weather_1 9 rfl rfl)
theorem dX3_weather_34 : decode cX3_weather 34 = .ok (.ireturn, 1) := dk_172 (dk_at dksX3_weather_1 10 rfl rfl)
abbrev cX3_weatherOf : ByteArray := prog_26_method_23_code
def yX3_weatherOf : MethodName := ⟨RX3, "weatherOf", "(II)I"⟩
def dkwX3_weatherOf_1 : List UInt8 := [167, 0, 19, 42, 180, 0, 44, 16, 24, 28, 104, 27, 96, 46, 3, 29, 184, 1, 10, 172]
abbrev dktX3_weatherOf_1 : List UInt8 := dkwX3_weatherOf_1 ++ []
def dkwX3_weatherOf_0 : List UInt8 := [28, 154, 0, 9, 17, 0, 200, 167, 0, 5, 16, 99, 62, 42, 27, 28, 182, 1, 7, 158, 0, 7, 29]
abbrev dktX3_weatherOf_0 : List UInt8 := dkwX3_weatherOf_0 ++ dktX3_weatherOf_1
theorem dksX3_weatherOf_0 : cX3_weatherOf.data.toList.drop 0 = dktX3_weatherOf_0 := by decide +kernel
theorem dksX3_weatherOf_1 : cX3_weatherOf.data.toList.drop 23 = dktX3_weatherOf_1 := dk_seg dksX3_weatherOf_0 23 rfl rfl
theorem dX3_weatherOf_0 : decode cX3_weatherOf 0 = .ok (.iload_n 2, 1) := dk_28 (dk_at dksX3_weatherOf_0 0 rfl rfl)
theorem dX3_weatherOf_1 : decode cX3_weatherOf 1 = .ok (.ifCond .ne 9, 3) := dk_154 0 9 (dk_at dksX3_weatherOf_0 1 rfl rfl)
theorem dX3_weatherOf_4 : decode cX3_weatherOf 4 = .ok (.sipush 200, 3) := dk_17 0 200 (dk_at dksX3_weatherOf_0 4 rfl rfl)
theorem dX3_weatherOf_7 : decode cX3_weatherOf 7 = .ok (.goto 5, 3) := dk_167 0 5 (dk_at dksX3_weatherOf_0 7 rfl rfl)
theorem dX3_weatherOf_10 : decode cX3_weatherOf 10 = .ok (.bipush 99, 2) := dk_16 99 (dk_at dksX3_weatherOf_0 10 rfl rfl)
theorem dX3_weatherOf_12 : decode cX3_weatherOf 12 = .ok (.istore_n 3, 1) := dk_62 (dk_at dksX3_weatherOf_0 12 rfl rfl)
theorem dX3_weatherOf_13 : decode cX3_weatherOf 13 = .ok (.aload_n 0, 1) := dk_42 (dk_at dksX3_weatherOf_0 13 rfl rfl)
theorem dX3_weatherOf_14 : decode cX3_weatherOf 14 = .ok (.iload_n 1, 1) := dk_27 (dk_at dksX3_weatherOf_0 14 rfl rfl)
theorem dX3_weatherOf_15 : decode cX3_weatherOf 15 = .ok (.iload_n 2, 1) := dk_28 (dk_at dksX3_weatherOf_0 15 rfl rfl)
theorem dX3_weatherOf_16 : decode cX3_weatherOf 16 = .ok (.invokevirtual 263, 3) := dk_182 1 7 (dk_at dksX3_weatherOf_0 16 rfl rfl)
theorem dX3_weatherOf_19 : decode cX3_weatherOf 19 = .ok (.ifCond .le 7, 3) := dk_158 0 7 (dk_at dksX3_weatherOf_0 19 rfl rfl)
theorem dX3_weatherOf_22 : decode cX3_weatherOf 22 = .ok (.iload_n 3, 1) := dk_29 (dk_at dksX3_weatherOf_0 22 rfl rfl)
theorem dX3_weatherOf_23 : decode cX3_weatherOf 23 = .ok (.goto 19, 3) := dk_167 0 19 (dk_at dksX3_weatherOf_1 0 rfl rfl)
theorem dX3_weatherOf_26 : decode cX3_weatherOf 26 = .ok (.aload_n 0, 1) := dk_42 (dk_at dksX3_weatherOf_1 3 rfl rfl)
theorem dX3_weatherOf_27 : decode cX3_weatherOf 27 = .ok (.getfield 44, 3) := dk_180 0 44 (dk_at dksX3_weatherOf_1 4 rfl rfl)
theorem dX3_weatherOf_30 : decode cX3_weatherOf 30 = .ok (.bipush 24, 2) := dk_16 24 (dk_at dksX3_weatherOf_1 7 rfl rfl)
theorem dX3_weatherOf_32 : decode cX3_weatherOf 32 = .ok (.iload_n 2, 1) := dk_28 (dk_at dksX3_weatherOf_1 9 rfl rfl)
theorem dX3_weatherOf_33 : decode cX3_weatherOf 33 = .ok (.imul, 1) := dk_104 (dk_at dksX3_weatherOf_1 10 rfl rfl)
theorem dX3_weatherOf_34 : decode cX3_weatherOf 34 = .ok (.iload_n 1, 1) := dk_27 (dk_at dksX3_weatherOf_1 11 rfl rfl)
theorem dX3_weatherOf_35 : decode cX3_weatherOf 35 = .ok (.iadd, 1) := dk_96 (dk_at dksX3_weatherOf_1 12 rfl rfl)
theorem dX3_weatherOf_36 : decode cX3_weatherOf 36 = .ok (.iaload, 1) := dk_46 (dk_at dksX3_weatherOf_1 13 rfl rfl)
theorem dX3_weatherOf_37 : decode cX3_weatherOf 37 = .ok (.iconst 0, 1) := dk_3 (dk_at dksX3_weatherOf_1 14 rfl rfl)
theorem dX3_weatherOf_38 : decode cX3_weatherOf 38 = .ok (.iload_n 3, 1) := dk_29 (dk_at dksX3_weatherOf_1 15 rfl rfl)
theorem dX3_weatherOf_39 : decode cX3_weatherOf 39 = .ok (.invokestatic 266, 3) := dk_184 1 10 (dk_at dksX3_weatherOf_1 16 rfl rfl)
theorem dX3_weatherOf_42 : decode cX3_weatherOf 42 = .ok (.ireturn, 1) := dk_172 (dk_at dksX3_weatherOf_1 19 rfl rfl)
abbrev cX3_faultOf : ByteArray := prog_26_method_22_code
def yX3_faultOf : MethodName := ⟨RX3, "faultOf", "(II)I"⟩
def dkwX3_faultOf_1 : List UInt8 := [159, 0, 7, 6, 167, 0, 18, 27, 42, 180, 0, 41, 28, 46, 161, 0, 7, 5, 167, 0, 4, 3, 172]
abbrev dktX3_faultOf_1 : List UInt8 := dkwX3_faultOf_1 ++ []
def dkwX3_faultOf_0 : List UInt8 := [42, 180, 0, 38, 28, 46, 16, 252, 160, 0, 7, 4, 167, 0, 32, 42, 180, 0, 38, 28, 46, 28]
abbrev dktX3_faultOf_0 : List UInt8 := dkwX3_faultOf_0 ++ dktX3_faultOf_1
theorem dksX3_faultOf_0 : cX3_faultOf.data.toList.drop 0 = dktX3_faultOf_0 := by decide +kernel
theorem dksX3_faultOf_1 : cX3_faultOf.data.toList.drop 22 = dktX3_faultOf_1 := dk_seg dksX3_faultOf_0 22 rfl rfl
theorem dX3_faultOf_0 : decode cX3_faultOf 0 = .ok (.aload_n 0, 1) := dk_42 (dk_at dksX3_faultOf_0 0 rfl rfl)
theorem dX3_faultOf_1 : decode cX3_faultOf 1 = .ok (.getfield 38, 3) := dk_180 0 38 (dk_at dksX3_faultOf_0 1 rfl rfl)
theorem dX3_faultOf_4 : decode cX3_faultOf 4 = .ok (.iload_n 2, 1) := dk_28 (dk_at dksX3_faultOf_0 4 rfl rfl)
theorem dX3_faultOf_5 : decode cX3_faultOf 5 = .ok (.iaload, 1) := dk_46 (dk_at dksX3_faultOf_0 5 rfl rfl)
theorem dX3_faultOf_6 : decode cX3_faultOf 6 = .ok (.bipush (-4), 2) := dk_16 252 (dk_at dksX3_faultOf_0 6 rfl rfl)
theorem dX3_faultOf_8 : decode cX3_faultOf 8 = .ok (.if_icmp .ne 7, 3) := dk_160 0 7 (dk_at dksX3_faultOf_0 8 rfl rfl)
theorem dX3_faultOf_11 : decode cX3_faultOf 11 = .ok (.iconst 1, 1) := dk_4 (dk_at dksX3_faultOf_0 11 rfl rfl)
theorem dX3_faultOf_12 : decode cX3_faultOf 12 = .ok (.goto 32, 3) := dk_167 0 32 (dk_at dksX3_faultOf_0 12 rfl rfl)
theorem dX3_faultOf_15 : decode cX3_faultOf 15 = .ok (.aload_n 0, 1) := dk_42 (dk_at dksX3_faultOf_0 15 rfl rfl)
theorem dX3_faultOf_16 : decode cX3_faultOf 16 = .ok (.getfield 38, 3) := dk_180 0 38 (dk_at dksX3_faultOf_0 16 rfl rfl)
theorem dX3_faultOf_19 : decode cX3_faultOf 19 = .ok (.iload_n 2, 1) := dk_28 (dk_at dksX3_faultOf_0 19 rfl rfl)
theorem dX3_faultOf_20 : decode cX3_faultOf 20 = .ok (.iaload, 1) := dk_46 (dk_at dksX3_faultOf_0 20 rfl rfl)
theorem dX3_faultOf_21 : decode cX3_faultOf 21 = .ok (.iload_n 2, 1) := dk_28 (dk_at dksX3_faultOf_0 21 rfl rfl)
theorem dX3_faultOf_22 : decode cX3_faultOf 22 = .ok (.if_icmp .eq 7, 3) := dk_159 0 7 (dk_at dksX3_faultOf_1 0 rfl rfl)
theorem dX3_faultOf_25 : decode cX3_faultOf 25 = .ok (.iconst 3, 1) := dk_6 (dk_at dksX3_faultOf_1 3 rfl rfl)
theorem dX3_faultOf_26 : decode cX3_faultOf 26 = .ok (.goto 18, 3) := dk_167 0 18 (dk_at dksX3_faultOf_1 4 rfl rfl)
theorem dX3_faultOf_29 : decode cX3_faultOf 29 = .ok (.iload_n 1, 1) := dk_27 (dk_at dksX3_faultOf_1 7 rfl rfl)
theorem dX3_faultOf_30 : decode cX3_faultOf 30 = .ok (.aload_n 0, 1) := dk_42 (dk_at dksX3_faultOf_1 8 rfl rfl)
theorem dX3_faultOf_31 : decode cX3_faultOf 31 = .ok (.getfield 41, 3) := dk_180 0 41 (dk_at dksX3_faultOf_1 9 rfl rfl)
theorem dX3_faultOf_34 : decode cX3_faultOf 34 = .ok (.iload_n 2, 1) := dk_28 (dk_at dksX3_faultOf_1 12 rfl rfl)
theorem dX3_faultOf_35 : decode cX3_faultOf 35 = .ok (.iaload, 1) := dk_46 (dk_at dksX3_faultOf_1 13 rfl rfl)
theorem dX3_faultOf_36 : decode cX3_faultOf 36 = .ok (.if_icmp .lt 7, 3) := dk_161 0 7 (dk_at dksX3_faultOf_1 14 rfl rfl)
theorem dX3_faultOf_39 : decode cX3_faultOf 39 = .ok (.iconst 2, 1) := dk_5 (dk_at dksX3_faultOf_1 17 rfl rfl)
theorem dX3_faultOf_40 : decode cX3_faultOf 40 = .ok (.goto 4, 3) := dk_167 0 4 (dk_at dksX3_faultOf_1 18 rfl rfl)
theorem dX3_faultOf_43 : decode cX3_faultOf 43 = .ok (.iconst 0, 1) := dk_3 (dk_at dksX3_faultOf_1 21 rfl rfl)
theorem dX3_faultOf_44 : decode cX3_faultOf 44 = .ok (.ireturn, 1) := dk_172 (dk_at dksX3_faultOf_1 22 rfl rfl)
abbrev cX3_held : ByteArray := prog_26_method_4_code
def yX3_held : MethodName := ⟨RX3, "held", "(III)I"⟩
def dkwX3_held_0 : List UInt8 := [26, 27, 162, 0, 7, 27, 167, 0, 13, 26, 28, 164, 0, 7, 28, 167, 0, 4, 26, 172]
abbrev dktX3_held_0 : List UInt8 := dkwX3_held_0 ++ []
theorem dksX3_held_0 : cX3_held.data.toList.drop 0 = dktX3_held_0 := by decide +kernel
theorem dX3_held_0 : decode cX3_held 0 = .ok (.iload_n 0, 1) := dk_26 (dk_at dksX3_held_0 0 rfl rfl)
theorem dX3_held_1 : decode cX3_held 1 = .ok (.iload_n 1, 1) := dk_27 (dk_at dksX3_held_0 1 rfl rfl)
theorem dX3_held_2 : decode cX3_held 2 = .ok (.if_icmp .ge 7, 3) := dk_162 0 7 (dk_at dksX3_held_0 2 rfl rfl)
theorem dX3_held_5 : decode cX3_held 5 = .ok (.iload_n 1, 1) := dk_27 (dk_at dksX3_held_0 5 rfl rfl)
theorem dX3_held_6 : decode cX3_held 6 = .ok (.goto 13, 3) := dk_167 0 13 (dk_at dksX3_held_0 6 rfl rfl)
theorem dX3_held_9 : decode cX3_held 9 = .ok (.iload_n 0, 1) := dk_26 (dk_at dksX3_held_0 9 rfl rfl)
theorem dX3_held_10 : decode cX3_held 10 = .ok (.iload_n 2, 1) := dk_28 (dk_at dksX3_held_0 10 rfl rfl)
theorem dX3_held_11 : decode cX3_held 11 = .ok (.if_icmp .le 7, 3) := dk_164 0 7 (dk_at dksX3_held_0 11 rfl rfl)
theorem dX3_held_14 : decode cX3_held 14 = .ok (.iload_n 2, 1) := dk_28 (dk_at dksX3_held_0 14 rfl rfl)
theorem dX3_held_15 : decode cX3_held 15 = .ok (.goto 4, 3) := dk_167 0 4 (dk_at dksX3_held_0 15 rfl rfl)
theorem dX3_held_18 : decode cX3_held 18 = .ok (.iload_n 0, 1) := dk_26 (dk_at dksX3_held_0 18 rfl rfl)
theorem dX3_held_19 : decode cX3_held 19 = .ok (.ireturn, 1) := dk_172 (dk_at dksX3_held_0 19 rfl rfl)
abbrev cX3_unknown : ByteArray := prog_26_method_25_code
def yX3_unknown : MethodName := ⟨RX3, "unknown", "(II)I"⟩
def dkwX3_unknown_1 : List UInt8 := [42, 27, 28, 182, 1, 7, 167, 0, 4, 2, 172]
abbrev dktX3_unknown_1 : List UInt8 := dkwX3_unknown_1 ++ []
def dkwX3_unknown_0 : List UInt8 := [27, 133, 9, 20, 1, 14, 184, 0, 214, 153, 0, 24, 28, 133, 9, 20, 1, 5, 184, 0, 214, 153, 0, 12]
abbrev dktX3_unknown_0 : List UInt8 := dkwX3_unknown_0 ++ dktX3_unknown_1
theorem dksX3_unknown_0 : cX3_unknown.data.toList.drop 0 = dktX3_unknown_0 := by decide +kernel
theorem dksX3_unknown_1 : cX3_unknown.data.toList.drop 24 = dktX3_unknown_1 := dk_seg dksX3_unknown_0 24 rfl rfl
theorem dX3_unknown_0 : decode cX3_unknown 0 = .ok (.iload_n 1, 1) := dk_27 (dk_at dksX3_unknown_0 0 rfl rfl)
theorem dX3_unknown_1 : decode cX3_unknown 1 = .ok (.i2l, 1) := dk_133 (dk_at dksX3_unknown_0 1 rfl rfl)
theorem dX3_unknown_2 : decode cX3_unknown 2 = .ok (.lconst 0, 1) := dk_9 (dk_at dksX3_unknown_0 2 rfl rfl)
theorem dX3_unknown_3 : decode cX3_unknown 3 = .ok (.ldc2_w 270, 3) := dk_20 1 14 (dk_at dksX3_unknown_0 3 rfl rfl)
theorem dX3_unknown_6 : decode cX3_unknown 6 = .ok (.invokestatic 214, 3) := dk_184 0 214 (dk_at dksX3_unknown_0 6 rfl rfl)
theorem dX3_unknown_9 : decode cX3_unknown 9 = .ok (.ifCond .eq 24, 3) := dk_153 0 24 (dk_at dksX3_unknown_0 9 rfl rfl)
theorem dX3_unknown_12 : decode cX3_unknown 12 = .ok (.iload_n 2, 1) := dk_28 (dk_at dksX3_unknown_0 12 rfl rfl)
theorem dX3_unknown_13 : decode cX3_unknown 13 = .ok (.i2l, 1) := dk_133 (dk_at dksX3_unknown_0 13 rfl rfl)
theorem dX3_unknown_14 : decode cX3_unknown 14 = .ok (.lconst 0, 1) := dk_9 (dk_at dksX3_unknown_0 14 rfl rfl)
theorem dX3_unknown_15 : decode cX3_unknown 15 = .ok (.ldc2_w 261, 3) := dk_20 1 5 (dk_at dksX3_unknown_0 15 rfl rfl)
theorem dX3_unknown_18 : decode cX3_unknown 18 = .ok (.invokestatic 214, 3) := dk_184 0 214 (dk_at dksX3_unknown_0 18 rfl rfl)
theorem dX3_unknown_21 : decode cX3_unknown 21 = .ok (.ifCond .eq 12, 3) := dk_153 0 12 (dk_at dksX3_unknown_0 21 rfl rfl)
theorem dX3_unknown_24 : decode cX3_unknown 24 = .ok (.aload_n 0, 1) := dk_42 (dk_at dksX3_unknown_1 0 rfl rfl)
theorem dX3_unknown_25 : decode cX3_unknown 25 = .ok (.iload_n 1, 1) := dk_27 (dk_at dksX3_unknown_1 1 rfl rfl)
theorem dX3_unknown_26 : decode cX3_unknown 26 = .ok (.iload_n 2, 1) := dk_28 (dk_at dksX3_unknown_1 2 rfl rfl)
theorem dX3_unknown_27 : decode cX3_unknown 27 = .ok (.invokevirtual 263, 3) := dk_182 1 7 (dk_at dksX3_unknown_1 3 rfl rfl)
theorem dX3_unknown_30 : decode cX3_unknown 30 = .ok (.goto 4, 3) := dk_167 0 4 (dk_at dksX3_unknown_1 6 rfl rfl)
theorem dX3_unknown_33 : decode cX3_unknown 33 = .ok (.iconst (-1), 1) := dk_2 (dk_at dksX3_unknown_1 9 rfl rfl)
theorem dX3_unknown_34 : decode cX3_unknown 34 = .ok (.ireturn, 1) := dk_172 (dk_at dksX3_unknown_1 10 rfl rfl)
abbrev cX3_takes : ByteArray := prog_26_method_27_code
def yX3_takes : MethodName := ⟨RX3, "takes", "(III)I"⟩
def dkwX3_takes_1 : List UInt8 := [20, 1, 19, 184, 0, 214, 153, 0, 13, 42, 27, 28, 29, 182, 1, 21, 167, 0, 4, 2, 172]
abbrev dktX3_takes_1 : List UInt8 := dkwX3_takes_1 ++ []
def dkwX3_takes_0 : List UInt8 := [42, 27, 182, 0, 234, 153, 0, 37, 28, 133, 9, 20, 0, 224, 184, 0, 214, 153, 0, 25, 29, 133, 9]
abbrev dktX3_takes_0 : List UInt8 := dkwX3_takes_0 ++ dktX3_takes_1
theorem dksX3_takes_0 : cX3_takes.data.toList.drop 0 = dktX3_takes_0 := by decide +kernel
theorem dksX3_takes_1 : cX3_takes.data.toList.drop 23 = dktX3_takes_1 := dk_seg dksX3_takes_0 23 rfl rfl
theorem dX3_takes_0 : decode cX3_takes 0 = .ok (.aload_n 0, 1) := dk_42 (dk_at dksX3_takes_0 0 rfl rfl)
theorem dX3_takes_1 : decode cX3_takes 1 = .ok (.iload_n 1, 1) := dk_27 (dk_at dksX3_takes_0 1 rfl rfl)
theorem dX3_takes_2 : decode cX3_takes 2 = .ok (.invokevirtual 234, 3) := dk_182 0 234 (dk_at dksX3_takes_0 2 rfl rfl)
theorem dX3_takes_5 : decode cX3_takes 5 = .ok (.ifCond .eq 37, 3) := dk_153 0 37 (dk_at dksX3_takes_0 5 rfl rfl)
theorem dX3_takes_8 : decode cX3_takes 8 = .ok (.iload_n 2, 1) := dk_28 (dk_at dksX3_takes_0 8 rfl rfl)
theorem dX3_takes_9 : decode cX3_takes 9 = .ok (.i2l, 1) := dk_133 (dk_at dksX3_takes_0 9 rfl rfl)
theorem dX3_takes_10 : decode cX3_takes 10 = .ok (.lconst 0, 1) := dk_9 (dk_at dksX3_takes_0 10 rfl rfl)
theorem dX3_takes_11 : decode cX3_takes 11 = .ok (.ldc2_w 224, 3) := dk_20 0 224 (dk_at dksX3_takes_0 11 rfl rfl)
theorem dX3_takes_14 : decode cX3_takes 14 = .ok (.invokestatic 214, 3) := dk_184 0 214 (dk_at dksX3_takes_0 14 rfl rfl)
theorem dX3_takes_17 : decode cX3_takes 17 = .ok (.ifCond .eq 25, 3) := dk_153 0 25 (dk_at dksX3_takes_0 17 rfl rfl)
theorem dX3_takes_20 : decode cX3_takes 20 = .ok (.iload_n 3, 1) := dk_29 (dk_at dksX3_takes_0 20 rfl rfl)
theorem dX3_takes_21 : decode cX3_takes 21 = .ok (.i2l, 1) := dk_133 (dk_at dksX3_takes_0 21 rfl rfl)
theorem dX3_takes_22 : decode cX3_takes 22 = .ok (.lconst 0, 1) := dk_9 (dk_at dksX3_takes_0 22 rfl rfl)
theorem dX3_takes_23 : decode cX3_takes 23 = .ok (.ldc2_w 275, 3) := dk_20 1 19 (dk_at dksX3_takes_1 0 rfl rfl)
theorem dX3_takes_26 : decode cX3_takes 26 = .ok (.invokestatic 214, 3) := dk_184 0 214 (dk_at dksX3_takes_1 3 rfl rfl)
theorem dX3_takes_29 : decode cX3_takes 29 = .ok (.ifCond .eq 13, 3) := dk_153 0 13 (dk_at dksX3_takes_1 6 rfl rfl)
theorem dX3_takes_32 : decode cX3_takes 32 = .ok (.aload_n 0, 1) := dk_42 (dk_at dksX3_takes_1 9 rfl rfl)
theorem dX3_takes_33 : decode cX3_takes 33 = .ok (.iload_n 1, 1) := dk_27 (dk_at dksX3_takes_1 10 rfl rfl)
theorem dX3_takes_34 : decode cX3_takes 34 = .ok (.iload_n 2, 1) := dk_28 (dk_at dksX3_takes_1 11 rfl rfl)
theorem dX3_takes_35 : decode cX3_takes 35 = .ok (.iload_n 3, 1) := dk_29 (dk_at dksX3_takes_1 12 rfl rfl)
theorem dX3_takes_36 : decode cX3_takes 36 = .ok (.invokevirtual 277, 3) := dk_182 1 21 (dk_at dksX3_takes_1 13 rfl rfl)
theorem dX3_takes_39 : decode cX3_takes 39 = .ok (.goto 4, 3) := dk_167 0 4 (dk_at dksX3_takes_1 16 rfl rfl)
theorem dX3_takes_42 : decode cX3_takes 42 = .ok (.iconst (-1), 1) := dk_2 (dk_at dksX3_takes_1 19 rfl rfl)
theorem dX3_takes_43 : decode cX3_takes 43 = .ok (.ireturn, 1) := dk_172 (dk_at dksX3_takes_1 20 rfl rfl)
abbrev cX3_takesOf : ByteArray := prog_26_method_26_code
def yX3_takesOf : MethodName := ⟨RX3, "takesOf", "(III)I"⟩
def dkwX3_takesOf_8 : List UInt8 := [4, 160, 0, 8, 21, 8, 167, 0, 5, 21, 9, 172]
abbrev dktX3_takesOf_8 : List UInt8 := dkwX3_takesOf_8 ++ []
def dkwX3_takesOf_7 : List UInt8 := [167, 0, 11, 21, 9, 21, 10, 16, 40, 108, 96, 172, 21, 5, 154, 0, 8, 21, 6, 167, 0, 16, 21, 5]
abbrev dktX3_takesOf_7 : List UInt8 := dkwX3_takesOf_7 ++ dktX3_takesOf_8
def dkwX3_takesOf_6 : List UInt8 := [182, 1, 16, 54, 10, 21, 10, 16, 100, 16, 10, 42, 180, 0, 25, 27, 46, 104, 100, 164, 0, 8, 16, 251]
abbrev dktX3_takesOf_6 : List UInt8 := dkwX3_takesOf_6 ++ dktX3_takesOf_7
def dkwX3_takesOf_5 : List UInt8 := [167, 0, 11, 21, 8, 21, 10, 16, 10, 108, 96, 172, 21, 5, 7, 160, 0, 43, 42, 21, 4, 3]
abbrev dktX3_takesOf_5 : List UInt8 := dkwX3_takesOf_5 ++ dktX3_takesOf_6
def dkwX3_takesOf_4 : List UInt8 := [5, 182, 1, 16, 54, 10, 21, 10, 5, 42, 180, 0, 25, 27, 46, 104, 96, 16, 60, 164, 0, 8, 16, 251]
abbrev dktX3_takesOf_4 : List UInt8 := dkwX3_takesOf_4 ++ dktX3_takesOf_5
def dkwX3_takesOf_3 : List UInt8 := [182, 1, 16, 158, 0, 8, 21, 7, 167, 0, 4, 3, 96, 54, 9, 21, 5, 6, 160, 0, 42, 42, 21, 4]
abbrev dktX3_takesOf_3 : List UInt8 := dkwX3_takesOf_3 ++ dktX3_takesOf_4
def dkwX3_takesOf_2 : List UInt8 := [161, 0, 10, 5, 21, 6, 104, 167, 0, 5, 21, 6, 54, 8, 21, 6, 21, 7, 96, 42, 21, 4, 4]
abbrev dktX3_takesOf_2 : List UInt8 := dkwX3_takesOf_2 ++ dktX3_takesOf_3
def dkwX3_takesOf_1 : List UInt8 := [108, 96, 54, 6, 42, 180, 0, 25, 27, 46, 16, 10, 28, 100, 104, 7, 108, 54, 7, 29, 16, 48]
abbrev dktX3_takesOf_1 : List UInt8 := dkwX3_takesOf_1 ++ dktX3_takesOf_2
def dkwX3_takesOf_0 : List UInt8 := [29, 7, 108, 54, 4, 42, 180, 0, 19, 27, 46, 54, 5, 42, 180, 0, 22, 27, 46, 16, 9, 28, 100, 6]
abbrev dktX3_takesOf_0 : List UInt8 := dkwX3_takesOf_0 ++ dktX3_takesOf_1
theorem dksX3_takesOf_0 : cX3_takesOf.data.toList.drop 0 = dktX3_takesOf_0 := by decide +kernel
theorem dksX3_takesOf_1 : cX3_takesOf.data.toList.drop 24 = dktX3_takesOf_1 := dk_seg dksX3_takesOf_0 24 rfl rfl
theorem dksX3_takesOf_2 : cX3_takesOf.data.toList.drop 46 = dktX3_takesOf_2 := dk_seg dksX3_takesOf_1 22 rfl rfl
theorem dksX3_takesOf_3 : cX3_takesOf.data.toList.drop 69 = dktX3_takesOf_3 := dk_seg dksX3_takesOf_2 23 rfl rfl
theorem dksX3_takesOf_4 : cX3_takesOf.data.toList.drop 93 = dktX3_takesOf_4 := dk_seg dksX3_takesOf_3 24 rfl rfl
theorem dksX3_takesOf_5 : cX3_takesOf.data.toList.drop 117 = dktX3_takesOf_5 := dk_seg dksX3_takesOf_4 24 rfl rfl
theorem dksX3_takesOf_6 : cX3_takesOf.data.toList.drop 139 = dktX3_takesOf_6 := dk_seg dksX3_takesOf_5 22 rfl rfl
theorem dksX3_takesOf_7 : cX3_takesOf.data.toList.drop 163 = dktX3_takesOf_7 := dk_seg dksX3_takesOf_6 24 rfl rfl
theorem dksX3_takesOf_8 : cX3_takesOf.data.toList.drop 187 = dktX3_takesOf_8 := dk_seg dksX3_takesOf_7 24 rfl rfl
theorem dX3_takesOf_0 : decode cX3_takesOf 0 = .ok (.iload_n 3, 1) := dk_29 (dk_at dksX3_takesOf_0 0 rfl rfl)
theorem dX3_takesOf_1 : decode cX3_takesOf 1 = .ok (.iconst 4, 1) := dk_7 (dk_at dksX3_takesOf_0 1 rfl rfl)
theorem dX3_takesOf_2 : decode cX3_takesOf 2 = .ok (.idiv, 1) := dk_108 (dk_at dksX3_takesOf_0 2 rfl rfl)
theorem dX3_takesOf_3 : decode cX3_takesOf 3 = .ok (.istore 4, 2) := dk_54 4 (dk_at dksX3_takesOf_0 3 rfl rfl)
theorem dX3_takesOf_5 : decode cX3_takesOf 5 = .ok (.aload_n 0, 1) := dk_42 (dk_at dksX3_takesOf_0 5 rfl rfl)
theorem dX3_takesOf_6 : decode cX3_takesOf 6 = .ok (.getfield 19, 3) := dk_180 0 19 (dk_at dksX3_takesOf_0 6 rfl rfl)
theorem dX3_takesOf_9 : decode cX3_takesOf 9 = .ok (.iload_n 1, 1) := dk_27 (dk_at dksX3_takesOf_0 9 rfl rfl)
theorem dX3_takesOf_10 : decode cX3_takesOf 10 = .ok (.iaload, 1) := dk_46 (dk_at dksX3_takesOf_0 10 rfl rfl)
theorem dX3_takesOf_11 : decode cX3_takesOf 11 = .ok (.istore 5, 2) := dk_54 5 (dk_at dksX3_takesOf_0 11 rfl rfl)
theorem dX3_takesOf_13 : decode cX3_takesOf 13 = .ok (.aload_n 0, 1) := dk_42 (dk_at dksX3_takesOf_0 13 rfl rfl)
theorem dX3_takesOf_14 : decode cX3_takesOf 14 = .ok (.getfield 22, 3) := dk_180 0 22 (dk_at dksX3_takesOf_0 14 rfl rfl)
theorem dX3_takesOf_17 : decode cX3_takesOf 17 = .ok (.iload_n 1, 1) := dk_27 (dk_at dksX3_takesOf_0 17 rfl rfl)
theorem dX3_takesOf_18 : decode cX3_takesOf 18 = .ok (.iaload, 1) := dk_46 (dk_at dksX3_takesOf_0 18 rfl rfl)
theorem dX3_takesOf_19 : decode cX3_takesOf 19 = .ok (.bipush 9, 2) := dk_16 9 (dk_at dksX3_takesOf_0 19 rfl rfl)
theorem dX3_takesOf_21 : decode cX3_takesOf 21 = .ok (.iload_n 2, 1) := dk_28 (dk_at dksX3_takesOf_0 21 rfl rfl)
theorem dX3_takesOf_22 : decode cX3_takesOf 22 = .ok (.isub, 1) := dk_100 (dk_at dksX3_takesOf_0 22 rfl rfl)
theorem dX3_takesOf_23 : decode cX3_takesOf 23 = .ok (.iconst 3, 1) := dk_6 (dk_at dksX3_takesOf_0 23 rfl rfl)
theorem dX3_takesOf_24 : decode cX3_takesOf 24 = .ok (.idiv, 1) := dk_108 (dk_at dksX3_takesOf_1 0 rfl rfl)
theorem dX3_takesOf_25 : decode cX3_takesOf 25 = .ok (.iadd, 1) := dk_96 (dk_at dksX3_takesOf_1 1 rfl rfl)
theorem dX3_takesOf_26 : decode cX3_takesOf 26 = .ok (.istore 6, 2) := dk_54 6 (dk_at dksX3_takesOf_1 2 rfl rfl)
theorem dX3_takesOf_28 : decode cX3_takesOf 28 = .ok (.aload_n 0, 1) := dk_42 (dk_at dksX3_takesOf_1 4 rfl rfl)
theorem dX3_takesOf_29 : decode cX3_takesOf 29 = .ok (.getfield 25, 3) := dk_180 0 25 (dk_at dksX3_takesOf_1 5 rfl rfl)
theorem dX3_takesOf_32 : decode cX3_takesOf 32 = .ok (.iload_n 1, 1) := dk_27 (dk_at dksX3_takesOf_1 8 rfl rfl)
theorem dX3_takesOf_33 : decode cX3_takesOf 33 = .ok (.iaload, 1) := dk_46 (dk_at dksX3_takesOf_1 9 rfl rfl)
theorem dX3_takesOf_34 : decode cX3_takesOf 34 = .ok (.bipush 10, 2) := dk_16 10 (dk_at dksX3_takesOf_1 10 rfl rfl)
theorem dX3_takesOf_36 : decode cX3_takesOf 36 = .ok (.iload_n 2, 1) := dk_28 (dk_at dksX3_takesOf_1 12 rfl rfl)
theorem dX3_takesOf_37 : decode cX3_takesOf 37 = .ok (.isub, 1) := dk_100 (dk_at dksX3_takesOf_1 13 rfl rfl)
theorem dX3_takesOf_38 : decode cX3_takesOf 38 = .ok (.imul, 1) := dk_104 (dk_at dksX3_takesOf_1 14 rfl rfl)
theorem dX3_takesOf_39 : decode cX3_takesOf 39 = .ok (.iconst 4, 1) := dk_7 (dk_at dksX3_takesOf_1 15 rfl rfl)
theorem dX3_takesOf_40 : decode cX3_takesOf 40 = .ok (.idiv, 1) := dk_108 (dk_at dksX3_takesOf_1 16 rfl rfl)
theorem dX3_takesOf_41 : decode cX3_takesOf 41 = .ok (.istore 7, 2) := dk_54 7 (dk_at dksX3_takesOf_1 17 rfl rfl)
theorem dX3_takesOf_43 : decode cX3_takesOf 43 = .ok (.iload_n 3, 1) := dk_29 (dk_at dksX3_takesOf_1 19 rfl rfl)
theorem dX3_takesOf_44 : decode cX3_takesOf 44 = .ok (.bipush 48, 2) := dk_16 48 (dk_at dksX3_takesOf_1 20 rfl rfl)
theorem dX3_takesOf_46 : decode cX3_takesOf 46 = .ok (.if_icmp .lt 10, 3) := dk_161 0 10 (dk_at dksX3_takesOf_2 0 rfl rfl)
theorem dX3_takesOf_49 : decode cX3_takesOf 49 = .ok (.iconst 2, 1) := dk_5 (dk_at dksX3_takesOf_2 3 rfl rfl)
theorem dX3_takesOf_50 : decode cX3_takesOf 50 = .ok (.iload 6, 2) := dk_21 6 (dk_at dksX3_takesOf_2 4 rfl rfl)
theorem dX3_takesOf_52 : decode cX3_takesOf 52 = .ok (.imul, 1) := dk_104 (dk_at dksX3_takesOf_2 6 rfl rfl)
theorem dX3_takesOf_53 : decode cX3_takesOf 53 = .ok (.goto 5, 3) := dk_167 0 5 (dk_at dksX3_takesOf_2 7 rfl rfl)
theorem dX3_takesOf_56 : decode cX3_takesOf 56 = .ok (.iload 6, 2) := dk_21 6 (dk_at dksX3_takesOf_2 10 rfl rfl)
theorem dX3_takesOf_58 : decode cX3_takesOf 58 = .ok (.istore 8, 2) := dk_54 8 (dk_at dksX3_takesOf_2 12 rfl rfl)
theorem dX3_takesOf_60 : decode cX3_takesOf 60 = .ok (.iload 6, 2) := dk_21 6 (dk_at dksX3_takesOf_2 14 rfl rfl)
theorem dX3_takesOf_62 : decode cX3_takesOf 62 = .ok (.iload 7, 2) := dk_21 7 (dk_at dksX3_takesOf_2 16 rfl rfl)
theorem dX3_takesOf_64 : decode cX3_takesOf 64 = .ok (.iadd, 1) := dk_96 (dk_at dksX3_takesOf_2 18 rfl rfl)
theorem dX3_takesOf_65 : decode cX3_takesOf 65 = .ok (.aload_n 0, 1) := dk_42 (dk_at dksX3_takesOf_2 19 rfl rfl)
theorem dX3_takesOf_66 : decode cX3_takesOf 66 = .ok (.iload 4, 2) := dk_21 4 (dk_at dksX3_takesOf_2 20 rfl rfl)
theorem dX3_takesOf_68 : decode cX3_takesOf 68 = .ok (.iconst 1, 1) := dk_4 (dk_at dksX3_takesOf_2 22 rfl rfl)
theorem dX3_takesOf_69 : decode cX3_takesOf 69 = .ok (.invokevirtual 272, 3) := dk_182 1 16 (dk_at dksX3_takesOf_3 0 rfl rfl)
theorem dX3_takesOf_72 : decode cX3_takesOf 72 = .ok (.ifCond .le 8, 3) := dk_158 0 8 (dk_at dksX3_takesOf_3 3 rfl rfl)
theorem dX3_takesOf_75 : decode cX3_takesOf 75 = .ok (.iload 7, 2) := dk_21 7 (dk_at dksX3_takesOf_3 6 rfl rfl)
theorem dX3_takesOf_77 : decode cX3_takesOf 77 = .ok (.goto 4, 3) := dk_167 0 4 (dk_at dksX3_takesOf_3 8 rfl rfl)
theorem dX3_takesOf_80 : decode cX3_takesOf 80 = .ok (.iconst 0, 1) := dk_3 (dk_at dksX3_takesOf_3 11 rfl rfl)
theorem dX3_takesOf_81 : decode cX3_takesOf 81 = .ok (.iadd, 1) := dk_96 (dk_at dksX3_takesOf_3 12 rfl rfl)
theorem dX3_takesOf_82 : decode cX3_takesOf 82 = .ok (.istore 9, 2) := dk_54 9 (dk_at dksX3_takesOf_3 13 rfl rfl)
theorem dX3_takesOf_84 : decode cX3_takesOf 84 = .ok (.iload 5, 2) := dk_21 5 (dk_at dksX3_takesOf_3 15 rfl rfl)
theorem dX3_takesOf_86 : decode cX3_takesOf 86 = .ok (.iconst 3, 1) := dk_6 (dk_at dksX3_takesOf_3 17 rfl rfl)
theorem dX3_takesOf_87 : decode cX3_takesOf 87 = .ok (.if_icmp .ne 42, 3) := dk_160 0 42 (dk_at dksX3_takesOf_3 18 rfl rfl)
theorem dX3_takesOf_90 : decode cX3_takesOf 90 = .ok (.aload_n 0, 1) := dk_42 (dk_at dksX3_takesOf_3 21 rfl rfl)
theorem dX3_takesOf_91 : decode cX3_takesOf 91 = .ok (.iload 4, 2) := dk_21 4 (dk_at dksX3_takesOf_3 22 rfl rfl)
theorem dX3_takesOf_93 : decode cX3_takesOf 93 = .ok (.iconst 2, 1) := dk_5 (dk_at dksX3_takesOf_4 0 rfl rfl)
theorem dX3_takesOf_94 : decode cX3_takesOf 94 = .ok (.invokevirtual 272, 3) := dk_182 1 16 (dk_at dksX3_takesOf_4 1 rfl rfl)
theorem dX3_takesOf_97 : decode cX3_takesOf 97 = .ok (.istore 10, 2) := dk_54 10 (dk_at dksX3_takesOf_4 4 rfl rfl)
theorem dX3_takesOf_99 : decode cX3_takesOf 99 = .ok (.iload 10, 2) := dk_21 10 (dk_at dksX3_takesOf_4 6 rfl rfl)
theorem dX3_takesOf_101 : decode cX3_takesOf 101 = .ok (.iconst 2, 1) := dk_5 (dk_at dksX3_takesOf_4 8 rfl rfl)
theorem dX3_takesOf_102 : decode cX3_takesOf 102 = .ok (.aload_n 0, 1) := dk_42 (dk_at dksX3_takesOf_4 9 rfl rfl)
theorem dX3_takesOf_103 : decode cX3_takesOf 103 = .ok (.getfield 25, 3) := dk_180 0 25 (dk_at dksX3_takesOf_4 10 rfl rfl)
theorem dX3_takesOf_106 : decode cX3_takesOf 106 = .ok (.iload_n 1, 1) := dk_27 (dk_at dksX3_takesOf_4 13 rfl rfl)
theorem dX3_takesOf_107 : decode cX3_takesOf 107 = .ok (.iaload, 1) := dk_46 (dk_at dksX3_takesOf_4 14 rfl rfl)
theorem dX3_takesOf_108 : decode cX3_takesOf 108 = .ok (.imul, 1) := dk_104 (dk_at dksX3_takesOf_4 15 rfl rfl)
theorem dX3_takesOf_109 : decode cX3_takesOf 109 = .ok (.iadd, 1) := dk_96 (dk_at dksX3_takesOf_4 16 rfl rfl)
theorem dX3_takesOf_110 : decode cX3_takesOf 110 = .ok (.bipush 60, 2) := dk_16 60 (dk_at dksX3_takesOf_4 17 rfl rfl)
theorem dX3_takesOf_112 : decode cX3_takesOf 112 = .ok (.if_icmp .le 8, 3) := dk_164 0 8 (dk_at dksX3_takesOf_4 19 rfl rfl)
theorem dX3_takesOf_115 : decode cX3_takesOf 115 = .ok (.bipush (-5), 2) := dk_16 251 (dk_at dksX3_takesOf_4 22 rfl rfl)
theorem dX3_takesOf_117 : decode cX3_takesOf 117 = .ok (.goto 11, 3) := dk_167 0 11 (dk_at dksX3_takesOf_5 0 rfl rfl)
theorem dX3_takesOf_120 : decode cX3_takesOf 120 = .ok (.iload 8, 2) := dk_21 8 (dk_at dksX3_takesOf_5 3 rfl rfl)
theorem dX3_takesOf_122 : decode cX3_takesOf 122 = .ok (.iload 10, 2) := dk_21 10 (dk_at dksX3_takesOf_5 5 rfl rfl)
theorem dX3_takesOf_124 : decode cX3_takesOf 124 = .ok (.bipush 10, 2) := dk_16 10 (dk_at dksX3_takesOf_5 7 rfl rfl)
theorem dX3_takesOf_126 : decode cX3_takesOf 126 = .ok (.idiv, 1) := dk_108 (dk_at dksX3_takesOf_5 9 rfl rfl)
theorem dX3_takesOf_127 : decode cX3_takesOf 127 = .ok (.iadd, 1) := dk_96 (dk_at dksX3_takesOf_5 10 rfl rfl)
theorem dX3_takesOf_128 : decode cX3_takesOf 128 = .ok (.ireturn, 1) := dk_172 (dk_at dksX3_takesOf_5 11 rfl rfl)
theorem dX3_takesOf_129 : decode cX3_takesOf 129 = .ok (.iload 5, 2) := dk_21 5 (dk_at dksX3_takesOf_5 12 rfl rfl)
theorem dX3_takesOf_131 : decode cX3_takesOf 131 = .ok (.iconst 4, 1) := dk_7 (dk_at dksX3_takesOf_5 14 rfl rfl)
theorem dX3_takesOf_132 : decode cX3_takesOf 132 = .ok (.if_icmp .ne 43, 3) := dk_160 0 43 (dk_at dksX3_takesOf_5 15 rfl rfl)
theorem dX3_takesOf_135 : decode cX3_takesOf 135 = .ok (.aload_n 0, 1) := dk_42 (dk_at dksX3_takesOf_5 18 rfl rfl)
theorem dX3_takesOf_136 : decode cX3_takesOf 136 = .ok (.iload 4, 2) := dk_21 4 (dk_at dksX3_takesOf_5 19 rfl rfl)
theorem dX3_takesOf_138 : decode cX3_takesOf 138 = .ok (.iconst 0, 1) := dk_3 (dk_at dksX3_takesOf_5 21 rfl rfl)
theorem dX3_takesOf_139 : decode cX3_takesOf 139 = .ok (.invokevirtual 272, 3) := dk_182 1 16 (dk_at dksX3_takesOf_6 0 rfl rfl)
theorem dX3_takesOf_142 : decode cX3_takesOf 142 = .ok (.istore 10, 2) := dk_54 10 (dk_at dksX3_takesOf_6 3 rfl rfl)
theorem dX3_takesOf_144 : decode cX3_takesOf 144 = .ok (.iload 10, 2) := dk_21 10 (dk_at dksX3_takesOf_6 5 rfl rfl)
theorem dX3_takesOf_146 : decode cX3_takesOf 146 = .ok (.bipush 100, 2) := dk_16 100 (dk_at dksX3_takesOf_6 7 rfl rfl)
theorem dX3_takesOf_148 : decode cX3_takesOf 148 = .ok (.bipush 10, 2) := dk_16 10 (dk_at dksX3_takesOf_6 9 rfl rfl)
theorem dX3_takesOf_150 : decode cX3_takesOf 150 = .ok (.aload_n 0, 1) := dk_42 (dk_at dksX3_takesOf_6 11 rfl rfl)
theorem dX3_takesOf_151 : decode cX3_takesOf 151 = .ok (.getfield 25, 3) := dk_180 0 25 (dk_at dksX3_takesOf_6 12 rfl rfl)
theorem dX3_takesOf_154 : decode cX3_takesOf 154 = .ok (.iload_n 1, 1) := dk_27 (dk_at dksX3_takesOf_6 15 rfl rfl)
theorem dX3_takesOf_155 : decode cX3_takesOf 155 = .ok (.iaload, 1) := dk_46 (dk_at dksX3_takesOf_6 16 rfl rfl)
theorem dX3_takesOf_156 : decode cX3_takesOf 156 = .ok (.imul, 1) := dk_104 (dk_at dksX3_takesOf_6 17 rfl rfl)
theorem dX3_takesOf_157 : decode cX3_takesOf 157 = .ok (.isub, 1) := dk_100 (dk_at dksX3_takesOf_6 18 rfl rfl)
theorem dX3_takesOf_158 : decode cX3_takesOf 158 = .ok (.if_icmp .le 8, 3) := dk_164 0 8 (dk_at dksX3_takesOf_6 19 rfl rfl)
theorem dX3_takesOf_161 : decode cX3_takesOf 161 = .ok (.bipush (-5), 2) := dk_16 251 (dk_at dksX3_takesOf_6 22 rfl rfl)
theorem dX3_takesOf_163 : decode cX3_takesOf 163 = .ok (.goto 11, 3) := dk_167 0 11 (dk_at dksX3_takesOf_7 0 rfl rfl)
theorem dX3_takesOf_166 : decode cX3_takesOf 166 = .ok (.iload 9, 2) := dk_21 9 (dk_at dksX3_takesOf_7 3 rfl rfl)
theorem dX3_takesOf_168 : decode cX3_takesOf 168 = .ok (.iload 10, 2) := dk_21 10 (dk_at dksX3_takesOf_7 5 rfl rfl)
theorem dX3_takesOf_170 : decode cX3_takesOf 170 = .ok (.bipush 40, 2) := dk_16 40 (dk_at dksX3_takesOf_7 7 rfl rfl)
theorem dX3_takesOf_172 : decode cX3_takesOf 172 = .ok (.idiv, 1) := dk_108 (dk_at dksX3_takesOf_7 9 rfl rfl)
theorem dX3_takesOf_173 : decode cX3_takesOf 173 = .ok (.iadd, 1) := dk_96 (dk_at dksX3_takesOf_7 10 rfl rfl)
theorem dX3_takesOf_174 : decode cX3_takesOf 174 = .ok (.ireturn, 1) := dk_172 (dk_at dksX3_takesOf_7 11 rfl rfl)
theorem dX3_takesOf_175 : decode cX3_takesOf 175 = .ok (.iload 5, 2) := dk_21 5 (dk_at dksX3_takesOf_7 12 rfl rfl)
theorem dX3_takesOf_177 : decode cX3_takesOf 177 = .ok (.ifCond .ne 8, 3) := dk_154 0 8 (dk_at dksX3_takesOf_7 14 rfl rfl)
theorem dX3_takesOf_180 : decode cX3_takesOf 180 = .ok (.iload 6, 2) := dk_21 6 (dk_at dksX3_takesOf_7 17 rfl rfl)
theorem dX3_takesOf_182 : decode cX3_takesOf 182 = .ok (.goto 16, 3) := dk_167 0 16 (dk_at dksX3_takesOf_7 19 rfl rfl)
theorem dX3_takesOf_185 : decode cX3_takesOf 185 = .ok (.iload 5, 2) := dk_21 5 (dk_at dksX3_takesOf_7 22 rfl rfl)
theorem dX3_takesOf_187 : decode cX3_takesOf 187 = .ok (.iconst 1, 1) := dk_4 (dk_at dksX3_takesOf_8 0 rfl rfl)
theorem dX3_takesOf_188 : decode cX3_takesOf 188 = .ok (.if_icmp .ne 8, 3) := dk_160 0 8 (dk_at dksX3_takesOf_8 1 rfl rfl)
theorem dX3_takesOf_191 : decode cX3_takesOf 191 = .ok (.iload 8, 2) := dk_21 8 (dk_at dksX3_takesOf_8 4 rfl rfl)
theorem dX3_takesOf_193 : decode cX3_takesOf 193 = .ok (.goto 5, 3) := dk_167 0 5 (dk_at dksX3_takesOf_8 6 rfl rfl)
theorem dX3_takesOf_196 : decode cX3_takesOf 196 = .ok (.iload 9, 2) := dk_21 9 (dk_at dksX3_takesOf_8 9 rfl rfl)
theorem dX3_takesOf_198 : decode cX3_takesOf 198 = .ok (.ireturn, 1) := dk_172 (dk_at dksX3_takesOf_8 11 rfl rfl)
abbrev cX3_hour : ByteArray := prog_26_method_29_code
def yX3_hour : MethodName := ⟨RX3, "hour", "(III)I"⟩
def dkwX3_hour_1 : List UInt8 := [20, 1, 19, 184, 0, 214, 153, 0, 13, 42, 27, 28, 29, 182, 1, 24, 167, 0, 4, 2, 172]
abbrev dktX3_hour_1 : List UInt8 := dkwX3_hour_1 ++ []
def dkwX3_hour_0 : List UInt8 := [42, 27, 182, 0, 241, 153, 0, 37, 28, 133, 9, 20, 0, 224, 184, 0, 214, 153, 0, 25, 29, 133, 9]
abbrev dktX3_hour_0 : List UInt8 := dkwX3_hour_0 ++ dktX3_hour_1
theorem dksX3_hour_0 : cX3_hour.data.toList.drop 0 = dktX3_hour_0 := by decide +kernel
theorem dksX3_hour_1 : cX3_hour.data.toList.drop 23 = dktX3_hour_1 := dk_seg dksX3_hour_0 23 rfl rfl
theorem dX3_hour_0 : decode cX3_hour 0 = .ok (.aload_n 0, 1) := dk_42 (dk_at dksX3_hour_0 0 rfl rfl)
theorem dX3_hour_1 : decode cX3_hour 1 = .ok (.iload_n 1, 1) := dk_27 (dk_at dksX3_hour_0 1 rfl rfl)
theorem dX3_hour_2 : decode cX3_hour 2 = .ok (.invokevirtual 241, 3) := dk_182 0 241 (dk_at dksX3_hour_0 2 rfl rfl)
theorem dX3_hour_5 : decode cX3_hour 5 = .ok (.ifCond .eq 37, 3) := dk_153 0 37 (dk_at dksX3_hour_0 5 rfl rfl)
theorem dX3_hour_8 : decode cX3_hour 8 = .ok (.iload_n 2, 1) := dk_28 (dk_at dksX3_hour_0 8 rfl rfl)
theorem dX3_hour_9 : decode cX3_hour 9 = .ok (.i2l, 1) := dk_133 (dk_at dksX3_hour_0 9 rfl rfl)
theorem dX3_hour_10 : decode cX3_hour 10 = .ok (.lconst 0, 1) := dk_9 (dk_at dksX3_hour_0 10 rfl rfl)
theorem dX3_hour_11 : decode cX3_hour 11 = .ok (.ldc2_w 224, 3) := dk_20 0 224 (dk_at dksX3_hour_0 11 rfl rfl)
theorem dX3_hour_14 : decode cX3_hour 14 = .ok (.invokestatic 214, 3) := dk_184 0 214 (dk_at dksX3_hour_0 14 rfl rfl)
theorem dX3_hour_17 : decode cX3_hour 17 = .ok (.ifCond .eq 25, 3) := dk_153 0 25 (dk_at dksX3_hour_0 17 rfl rfl)
theorem dX3_hour_20 : decode cX3_hour 20 = .ok (.iload_n 3, 1) := dk_29 (dk_at dksX3_hour_0 20 rfl rfl)
theorem dX3_hour_21 : decode cX3_hour 21 = .ok (.i2l, 1) := dk_133 (dk_at dksX3_hour_0 21 rfl rfl)
theorem dX3_hour_22 : decode cX3_hour 22 = .ok (.lconst 0, 1) := dk_9 (dk_at dksX3_hour_0 22 rfl rfl)
theorem dX3_hour_23 : decode cX3_hour 23 = .ok (.ldc2_w 275, 3) := dk_20 1 19 (dk_at dksX3_hour_1 0 rfl rfl)
theorem dX3_hour_26 : decode cX3_hour 26 = .ok (.invokestatic 214, 3) := dk_184 0 214 (dk_at dksX3_hour_1 3 rfl rfl)
theorem dX3_hour_29 : decode cX3_hour 29 = .ok (.ifCond .eq 13, 3) := dk_153 0 13 (dk_at dksX3_hour_1 6 rfl rfl)
theorem dX3_hour_32 : decode cX3_hour 32 = .ok (.aload_n 0, 1) := dk_42 (dk_at dksX3_hour_1 9 rfl rfl)
theorem dX3_hour_33 : decode cX3_hour 33 = .ok (.iload_n 1, 1) := dk_27 (dk_at dksX3_hour_1 10 rfl rfl)
theorem dX3_hour_34 : decode cX3_hour 34 = .ok (.iload_n 2, 1) := dk_28 (dk_at dksX3_hour_1 11 rfl rfl)
theorem dX3_hour_35 : decode cX3_hour 35 = .ok (.iload_n 3, 1) := dk_29 (dk_at dksX3_hour_1 12 rfl rfl)
theorem dX3_hour_36 : decode cX3_hour 36 = .ok (.invokevirtual 280, 3) := dk_182 1 24 (dk_at dksX3_hour_1 13 rfl rfl)
theorem dX3_hour_39 : decode cX3_hour 39 = .ok (.goto 4, 3) := dk_167 0 4 (dk_at dksX3_hour_1 16 rfl rfl)
theorem dX3_hour_42 : decode cX3_hour 42 = .ok (.iconst (-1), 1) := dk_2 (dk_at dksX3_hour_1 19 rfl rfl)
theorem dX3_hour_43 : decode cX3_hour 43 = .ok (.ireturn, 1) := dk_172 (dk_at dksX3_hour_1 20 rfl rfl)
abbrev cX3_hourOf : ByteArray := prog_26_method_28_code
def yX3_hourOf : MethodName := ⟨RX3, "hourOf", "(III)I"⟩
def dkwX3_hourOf_3 : List UInt8 := [21, 4, 172]
abbrev dktX3_hourOf_3 : List UInt8 := dkwX3_hourOf_3 ++ []
def dkwX3_hourOf_2 : List UInt8 := [16, 251, 160, 0, 9, 16, 156, 21, 5, 100, 172, 21, 4, 21, 6, 96, 54, 4, 132, 5, 1, 167, 255, 194]
abbrev dktX3_hourOf_2 : List UInt8 := dkwX3_hourOf_2 ++ dktX3_hourOf_3
def dkwX3_hourOf_1 : List UInt8 := [16, 251, 167, 0, 17, 42, 42, 27, 21, 5, 182, 0, 237, 28, 21, 4, 182, 1, 21, 54, 6, 21, 6]
abbrev dktX3_hourOf_1 : List UInt8 := dkwX3_hourOf_1 ++ dktX3_hourOf_2
def dkwX3_hourOf_0 : List UInt8 := [29, 54, 4, 3, 54, 5, 21, 5, 42, 180, 0, 32, 27, 46, 162, 0, 57, 21, 4, 16, 96, 161, 0, 8]
abbrev dktX3_hourOf_0 : List UInt8 := dkwX3_hourOf_0 ++ dktX3_hourOf_1
theorem dksX3_hourOf_0 : cX3_hourOf.data.toList.drop 0 = dktX3_hourOf_0 := by decide +kernel
theorem dksX3_hourOf_1 : cX3_hourOf.data.toList.drop 24 = dktX3_hourOf_1 := dk_seg dksX3_hourOf_0 24 rfl rfl
theorem dksX3_hourOf_2 : cX3_hourOf.data.toList.drop 47 = dktX3_hourOf_2 := dk_seg dksX3_hourOf_1 23 rfl rfl
theorem dksX3_hourOf_3 : cX3_hourOf.data.toList.drop 71 = dktX3_hourOf_3 := dk_seg dksX3_hourOf_2 24 rfl rfl
theorem dX3_hourOf_0 : decode cX3_hourOf 0 = .ok (.iload_n 3, 1) := dk_29 (dk_at dksX3_hourOf_0 0 rfl rfl)
theorem dX3_hourOf_1 : decode cX3_hourOf 1 = .ok (.istore 4, 2) := dk_54 4 (dk_at dksX3_hourOf_0 1 rfl rfl)
theorem dX3_hourOf_3 : decode cX3_hourOf 3 = .ok (.iconst 0, 1) := dk_3 (dk_at dksX3_hourOf_0 3 rfl rfl)
theorem dX3_hourOf_4 : decode cX3_hourOf 4 = .ok (.istore 5, 2) := dk_54 5 (dk_at dksX3_hourOf_0 4 rfl rfl)
theorem dX3_hourOf_6 : decode cX3_hourOf 6 = .ok (.iload 5, 2) := dk_21 5 (dk_at dksX3_hourOf_0 6 rfl rfl)
theorem dX3_hourOf_8 : decode cX3_hourOf 8 = .ok (.aload_n 0, 1) := dk_42 (dk_at dksX3_hourOf_0 8 rfl rfl)
theorem dX3_hourOf_9 : decode cX3_hourOf 9 = .ok (.getfield 32, 3) := dk_180 0 32 (dk_at dksX3_hourOf_0 9 rfl rfl)
theorem dX3_hourOf_12 : decode cX3_hourOf 12 = .ok (.iload_n 1, 1) := dk_27 (dk_at dksX3_hourOf_0 12 rfl rfl)
theorem dX3_hourOf_13 : decode cX3_hourOf 13 = .ok (.iaload, 1) := dk_46 (dk_at dksX3_hourOf_0 13 rfl rfl)
theorem dX3_hourOf_14 : decode cX3_hourOf 14 = .ok (.if_icmp .ge 57, 3) := dk_162 0 57 (dk_at dksX3_hourOf_0 14 rfl rfl)
theorem dX3_hourOf_17 : decode cX3_hourOf 17 = .ok (.iload 4, 2) := dk_21 4 (dk_at dksX3_hourOf_0 17 rfl rfl)
theorem dX3_hourOf_19 : decode cX3_hourOf 19 = .ok (.bipush 96, 2) := dk_16 96 (dk_at dksX3_hourOf_0 19 rfl rfl)
theorem dX3_hourOf_21 : decode cX3_hourOf 21 = .ok (.if_icmp .lt 8, 3) := dk_161 0 8 (dk_at dksX3_hourOf_0 21 rfl rfl)
theorem dX3_hourOf_24 : decode cX3_hourOf 24 = .ok (.bipush (-5), 2) := dk_16 251 (dk_at dksX3_hourOf_1 0 rfl rfl)
theorem dX3_hourOf_26 : decode cX3_hourOf 26 = .ok (.goto 17, 3) := dk_167 0 17 (dk_at dksX3_hourOf_1 2 rfl rfl)
theorem dX3_hourOf_29 : decode cX3_hourOf 29 = .ok (.aload_n 0, 1) := dk_42 (dk_at dksX3_hourOf_1 5 rfl rfl)
theorem dX3_hourOf_30 : decode cX3_hourOf 30 = .ok (.aload_n 0, 1) := dk_42 (dk_at dksX3_hourOf_1 6 rfl rfl)
theorem dX3_hourOf_31 : decode cX3_hourOf 31 = .ok (.iload_n 1, 1) := dk_27 (dk_at dksX3_hourOf_1 7 rfl rfl)
theorem dX3_hourOf_32 : decode cX3_hourOf 32 = .ok (.iload 5, 2) := dk_21 5 (dk_at dksX3_hourOf_1 8 rfl rfl)
theorem dX3_hourOf_34 : decode cX3_hourOf 34 = .ok (.invokevirtual 237, 3) := dk_182 0 237 (dk_at dksX3_hourOf_1 10 rfl rfl)
theorem dX3_hourOf_37 : decode cX3_hourOf 37 = .ok (.iload_n 2, 1) := dk_28 (dk_at dksX3_hourOf_1 13 rfl rfl)
theorem dX3_hourOf_38 : decode cX3_hourOf 38 = .ok (.iload 4, 2) := dk_21 4 (dk_at dksX3_hourOf_1 14 rfl rfl)
theorem dX3_hourOf_40 : decode cX3_hourOf 40 = .ok (.invokevirtual 277, 3) := dk_182 1 21 (dk_at dksX3_hourOf_1 16 rfl rfl)
theorem dX3_hourOf_43 : decode cX3_hourOf 43 = .ok (.istore 6, 2) := dk_54 6 (dk_at dksX3_hourOf_1 19 rfl rfl)
theorem dX3_hourOf_45 : decode cX3_hourOf 45 = .ok (.iload 6, 2) := dk_21 6 (dk_at dksX3_hourOf_1 21 rfl rfl)
theorem dX3_hourOf_47 : decode cX3_hourOf 47 = .ok (.bipush (-5), 2) := dk_16 251 (dk_at dksX3_hourOf_2 0 rfl rfl)
theorem dX3_hourOf_49 : decode cX3_hourOf 49 = .ok (.if_icmp .ne 9, 3) := dk_160 0 9 (dk_at dksX3_hourOf_2 2 rfl rfl)
theorem dX3_hourOf_52 : decode cX3_hourOf 52 = .ok (.bipush (-100), 2) := dk_16 156 (dk_at dksX3_hourOf_2 5 rfl rfl)
theorem dX3_hourOf_54 : decode cX3_hourOf 54 = .ok (.iload 5, 2) := dk_21 5 (dk_at dksX3_hourOf_2 7 rfl rfl)
theorem dX3_hourOf_56 : decode cX3_hourOf 56 = .ok (.isub, 1) := dk_100 (dk_at dksX3_hourOf_2 9 rfl rfl)
theorem dX3_hourOf_57 : decode cX3_hourOf 57 = .ok (.ireturn, 1) := dk_172 (dk_at dksX3_hourOf_2 10 rfl rfl)
theorem dX3_hourOf_58 : decode cX3_hourOf 58 = .ok (.iload 4, 2) := dk_21 4 (dk_at dksX3_hourOf_2 11 rfl rfl)
theorem dX3_hourOf_60 : decode cX3_hourOf 60 = .ok (.iload 6, 2) := dk_21 6 (dk_at dksX3_hourOf_2 13 rfl rfl)
theorem dX3_hourOf_62 : decode cX3_hourOf 62 = .ok (.iadd, 1) := dk_96 (dk_at dksX3_hourOf_2 15 rfl rfl)
theorem dX3_hourOf_63 : decode cX3_hourOf 63 = .ok (.istore 4, 2) := dk_54 4 (dk_at dksX3_hourOf_2 16 rfl rfl)
theorem dX3_hourOf_65 : decode cX3_hourOf 65 = .ok (.iinc 5 1, 3) := dk_132 5 1 (dk_at dksX3_hourOf_2 18 rfl rfl)
theorem dX3_hourOf_68 : decode cX3_hourOf 68 = .ok (.goto (-62), 3) := dk_167 255 194 (dk_at dksX3_hourOf_2 21 rfl rfl)
theorem dX3_hourOf_71 : decode cX3_hourOf 71 = .ok (.iload 4, 2) := dk_21 4 (dk_at dksX3_hourOf_3 0 rfl rfl)
theorem dX3_hourOf_73 : decode cX3_hourOf 73 = .ok (.ireturn, 1) := dk_172 (dk_at dksX3_hourOf_3 2 rfl rfl)
abbrev cX3_late : ByteArray := prog_26_method_30_code
def yX3_late : MethodName := ⟨RX3, "late", "(III)I"⟩
def dkwX3_late_3 : List UInt8 := [167, 0, 5, 21, 4, 54, 4, 132, 5, 1, 167, 255, 219, 21, 4, 172]
abbrev dktX3_late_3 : List UInt8 := dkwX3_late_3 ++ []
def dkwX3_late_2 : List UInt8 := [162, 0, 36, 42, 27, 28, 21, 5, 182, 1, 24, 133, 9, 29, 133, 184, 0, 214, 153, 0, 8, 21, 5]
abbrev dktX3_late_2 : List UInt8 := dkwX3_late_2 ++ dktX3_late_3
def dkwX3_late_1 : List UInt8 := [20, 1, 19, 184, 0, 214, 154, 0, 5, 2, 172, 16, 252, 54, 4, 3, 54, 5, 21, 5, 16, 96]
abbrev dktX3_late_1 : List UInt8 := dkwX3_late_1 ++ dktX3_late_2
def dkwX3_late_0 : List UInt8 := [42, 27, 182, 0, 241, 153, 0, 27, 28, 133, 9, 20, 0, 224, 184, 0, 214, 153, 0, 15, 29, 133, 9]
abbrev dktX3_late_0 : List UInt8 := dkwX3_late_0 ++ dktX3_late_1
theorem dksX3_late_0 : cX3_late.data.toList.drop 0 = dktX3_late_0 := by decide +kernel
theorem dksX3_late_1 : cX3_late.data.toList.drop 23 = dktX3_late_1 := dk_seg dksX3_late_0 23 rfl rfl
theorem dksX3_late_2 : cX3_late.data.toList.drop 45 = dktX3_late_2 := dk_seg dksX3_late_1 22 rfl rfl
theorem dksX3_late_3 : cX3_late.data.toList.drop 68 = dktX3_late_3 := dk_seg dksX3_late_2 23 rfl rfl
theorem dX3_late_0 : decode cX3_late 0 = .ok (.aload_n 0, 1) := dk_42 (dk_at dksX3_late_0 0 rfl rfl)
theorem dX3_late_1 : decode cX3_late 1 = .ok (.iload_n 1, 1) := dk_27 (dk_at dksX3_late_0 1 rfl rfl)
theorem dX3_late_2 : decode cX3_late 2 = .ok (.invokevirtual 241, 3) := dk_182 0 241 (dk_at dksX3_late_0 2 rfl rfl)
theorem dX3_late_5 : decode cX3_late 5 = .ok (.ifCond .eq 27, 3) := dk_153 0 27 (dk_at dksX3_late_0 5 rfl rfl)
theorem dX3_late_8 : decode cX3_late 8 = .ok (.iload_n 2, 1) := dk_28 (dk_at dksX3_late_0 8 rfl rfl)
theorem dX3_late_9 : decode cX3_late 9 = .ok (.i2l, 1) := dk_133 (dk_at dksX3_late_0 9 rfl rfl)
theorem dX3_late_10 : decode cX3_late 10 = .ok (.lconst 0, 1) := dk_9 (dk_at dksX3_late_0 10 rfl rfl)
theorem dX3_late_11 : decode cX3_late 11 = .ok (.ldc2_w 224, 3) := dk_20 0 224 (dk_at dksX3_late_0 11 rfl rfl)
theorem dX3_late_14 : decode cX3_late 14 = .ok (.invokestatic 214, 3) := dk_184 0 214 (dk_at dksX3_late_0 14 rfl rfl)
theorem dX3_late_17 : decode cX3_late 17 = .ok (.ifCond .eq 15, 3) := dk_153 0 15 (dk_at dksX3_late_0 17 rfl rfl)
theorem dX3_late_20 : decode cX3_late 20 = .ok (.iload_n 3, 1) := dk_29 (dk_at dksX3_late_0 20 rfl rfl)
theorem dX3_late_21 : decode cX3_late 21 = .ok (.i2l, 1) := dk_133 (dk_at dksX3_late_0 21 rfl rfl)
theorem dX3_late_22 : decode cX3_late 22 = .ok (.lconst 0, 1) := dk_9 (dk_at dksX3_late_0 22 rfl rfl)
theorem dX3_late_23 : decode cX3_late 23 = .ok (.ldc2_w 275, 3) := dk_20 1 19 (dk_at dksX3_late_1 0 rfl rfl)
theorem dX3_late_26 : decode cX3_late 26 = .ok (.invokestatic 214, 3) := dk_184 0 214 (dk_at dksX3_late_1 3 rfl rfl)
theorem dX3_late_29 : decode cX3_late 29 = .ok (.ifCond .ne 5, 3) := dk_154 0 5 (dk_at dksX3_late_1 6 rfl rfl)
theorem dX3_late_32 : decode cX3_late 32 = .ok (.iconst (-1), 1) := dk_2 (dk_at dksX3_late_1 9 rfl rfl)
theorem dX3_late_33 : decode cX3_late 33 = .ok (.ireturn, 1) := dk_172 (dk_at dksX3_late_1 10 rfl rfl)
theorem dX3_late_34 : decode cX3_late 34 = .ok (.bipush (-4), 2) := dk_16 252 (dk_at dksX3_late_1 11 rfl rfl)
theorem dX3_late_36 : decode cX3_late 36 = .ok (.istore 4, 2) := dk_54 4 (dk_at dksX3_late_1 13 rfl rfl)
theorem dX3_late_38 : decode cX3_late 38 = .ok (.iconst 0, 1) := dk_3 (dk_at dksX3_late_1 15 rfl rfl)
theorem dX3_late_39 : decode cX3_late 39 = .ok (.istore 5, 2) := dk_54 5 (dk_at dksX3_late_1 16 rfl rfl)
theorem dX3_late_41 : decode cX3_late 41 = .ok (.iload 5, 2) := dk_21 5 (dk_at dksX3_late_1 18 rfl rfl)
theorem dX3_late_43 : decode cX3_late 43 = .ok (.bipush 96, 2) := dk_16 96 (dk_at dksX3_late_1 20 rfl rfl)
theorem dX3_late_45 : decode cX3_late 45 = .ok (.if_icmp .ge 36, 3) := dk_162 0 36 (dk_at dksX3_late_2 0 rfl rfl)
theorem dX3_late_48 : decode cX3_late 48 = .ok (.aload_n 0, 1) := dk_42 (dk_at dksX3_late_2 3 rfl rfl)
theorem dX3_late_49 : decode cX3_late 49 = .ok (.iload_n 1, 1) := dk_27 (dk_at dksX3_late_2 4 rfl rfl)
theorem dX3_late_50 : decode cX3_late 50 = .ok (.iload_n 2, 1) := dk_28 (dk_at dksX3_late_2 5 rfl rfl)
theorem dX3_late_51 : decode cX3_late 51 = .ok (.iload 5, 2) := dk_21 5 (dk_at dksX3_late_2 6 rfl rfl)
theorem dX3_late_53 : decode cX3_late 53 = .ok (.invokevirtual 280, 3) := dk_182 1 24 (dk_at dksX3_late_2 8 rfl rfl)
theorem dX3_late_56 : decode cX3_late 56 = .ok (.i2l, 1) := dk_133 (dk_at dksX3_late_2 11 rfl rfl)
theorem dX3_late_57 : decode cX3_late 57 = .ok (.lconst 0, 1) := dk_9 (dk_at dksX3_late_2 12 rfl rfl)
theorem dX3_late_58 : decode cX3_late 58 = .ok (.iload_n 3, 1) := dk_29 (dk_at dksX3_late_2 13 rfl rfl)
theorem dX3_late_59 : decode cX3_late 59 = .ok (.i2l, 1) := dk_133 (dk_at dksX3_late_2 14 rfl rfl)
theorem dX3_late_60 : decode cX3_late 60 = .ok (.invokestatic 214, 3) := dk_184 0 214 (dk_at dksX3_late_2 15 rfl rfl)
theorem dX3_late_63 : decode cX3_late 63 = .ok (.ifCond .eq 8, 3) := dk_153 0 8 (dk_at dksX3_late_2 18 rfl rfl)
theorem dX3_late_66 : decode cX3_late 66 = .ok (.iload 5, 2) := dk_21 5 (dk_at dksX3_late_2 21 rfl rfl)
theorem dX3_late_68 : decode cX3_late 68 = .ok (.goto 5, 3) := dk_167 0 5 (dk_at dksX3_late_3 0 rfl rfl)
theorem dX3_late_71 : decode cX3_late 71 = .ok (.iload 4, 2) := dk_21 4 (dk_at dksX3_late_3 3 rfl rfl)
theorem dX3_late_73 : decode cX3_late 73 = .ok (.istore 4, 2) := dk_54 4 (dk_at dksX3_late_3 5 rfl rfl)
theorem dX3_late_75 : decode cX3_late 75 = .ok (.iinc 5 1, 3) := dk_132 5 1 (dk_at dksX3_late_3 7 rfl rfl)
theorem dX3_late_78 : decode cX3_late 78 = .ok (.goto (-37), 3) := dk_167 255 219 (dk_at dksX3_late_3 10 rfl rfl)
theorem dX3_late_81 : decode cX3_late 81 = .ok (.iload 4, 2) := dk_21 4 (dk_at dksX3_late_3 13 rfl rfl)
theorem dX3_late_83 : decode cX3_late 83 = .ok (.ireturn, 1) := dk_172 (dk_at dksX3_late_3 15 rfl rfl)
abbrev cX3_way : ByteArray := prog_26_method_32_code
def yX3_way : MethodName := ⟨RX3, "way", "(IIII)I"⟩
def dkwX3_way_2 : List UInt8 := [21, 4, 182, 1, 27, 167, 0, 4, 2, 172]
abbrev dktX3_way_2 : List UInt8 := dkwX3_way_2 ++ []
def dkwX3_way_1 : List UInt8 := [184, 0, 214, 153, 0, 28, 21, 4, 133, 9, 20, 1, 19, 184, 0, 214, 153, 0, 15, 42, 27, 28, 29]
abbrev dktX3_way_1 : List UInt8 := dkwX3_way_1 ++ dktX3_way_2
def dkwX3_way_0 : List UInt8 := [42, 27, 182, 0, 226, 153, 0, 48, 42, 28, 182, 0, 226, 153, 0, 40, 29, 133, 9, 20, 0, 224]
abbrev dktX3_way_0 : List UInt8 := dkwX3_way_0 ++ dktX3_way_1
theorem dksX3_way_0 : cX3_way.data.toList.drop 0 = dktX3_way_0 := by decide +kernel
theorem dksX3_way_1 : cX3_way.data.toList.drop 22 = dktX3_way_1 := dk_seg dksX3_way_0 22 rfl rfl
theorem dksX3_way_2 : cX3_way.data.toList.drop 45 = dktX3_way_2 := dk_seg dksX3_way_1 23 rfl rfl
theorem dX3_way_0 : decode cX3_way 0 = .ok (.aload_n 0, 1) := dk_42 (dk_at dksX3_way_0 0 rfl rfl)
theorem dX3_way_1 : decode cX3_way 1 = .ok (.iload_n 1, 1) := dk_27 (dk_at dksX3_way_0 1 rfl rfl)
theorem dX3_way_2 : decode cX3_way 2 = .ok (.invokevirtual 226, 3) := dk_182 0 226 (dk_at dksX3_way_0 2 rfl rfl)
theorem dX3_way_5 : decode cX3_way 5 = .ok (.ifCond .eq 48, 3) := dk_153 0 48 (dk_at dksX3_way_0 5 rfl rfl)
theorem dX3_way_8 : decode cX3_way 8 = .ok (.aload_n 0, 1) := dk_42 (dk_at dksX3_way_0 8 rfl rfl)
theorem dX3_way_9 : decode cX3_way 9 = .ok (.iload_n 2, 1) := dk_28 (dk_at dksX3_way_0 9 rfl rfl)
theorem dX3_way_10 : decode cX3_way 10 = .ok (.invokevirtual 226, 3) := dk_182 0 226 (dk_at dksX3_way_0 10 rfl rfl)
theorem dX3_way_13 : decode cX3_way 13 = .ok (.ifCond .eq 40, 3) := dk_153 0 40 (dk_at dksX3_way_0 13 rfl rfl)
theorem dX3_way_16 : decode cX3_way 16 = .ok (.iload_n 3, 1) := dk_29 (dk_at dksX3_way_0 16 rfl rfl)
theorem dX3_way_17 : decode cX3_way 17 = .ok (.i2l, 1) := dk_133 (dk_at dksX3_way_0 17 rfl rfl)
theorem dX3_way_18 : decode cX3_way 18 = .ok (.lconst 0, 1) := dk_9 (dk_at dksX3_way_0 18 rfl rfl)
theorem dX3_way_19 : decode cX3_way 19 = .ok (.ldc2_w 224, 3) := dk_20 0 224 (dk_at dksX3_way_0 19 rfl rfl)
theorem dX3_way_22 : decode cX3_way 22 = .ok (.invokestatic 214, 3) := dk_184 0 214 (dk_at dksX3_way_1 0 rfl rfl)
theorem dX3_way_25 : decode cX3_way 25 = .ok (.ifCond .eq 28, 3) := dk_153 0 28 (dk_at dksX3_way_1 3 rfl rfl)
theorem dX3_way_28 : decode cX3_way 28 = .ok (.iload 4, 2) := dk_21 4 (dk_at dksX3_way_1 6 rfl rfl)
theorem dX3_way_30 : decode cX3_way 30 = .ok (.i2l, 1) := dk_133 (dk_at dksX3_way_1 8 rfl rfl)
theorem dX3_way_31 : decode cX3_way 31 = .ok (.lconst 0, 1) := dk_9 (dk_at dksX3_way_1 9 rfl rfl)
theorem dX3_way_32 : decode cX3_way 32 = .ok (.ldc2_w 275, 3) := dk_20 1 19 (dk_at dksX3_way_1 10 rfl rfl)
theorem dX3_way_35 : decode cX3_way 35 = .ok (.invokestatic 214, 3) := dk_184 0 214 (dk_at dksX3_way_1 13 rfl rfl)
theorem dX3_way_38 : decode cX3_way 38 = .ok (.ifCond .eq 15, 3) := dk_153 0 15 (dk_at dksX3_way_1 16 rfl rfl)
theorem dX3_way_41 : decode cX3_way 41 = .ok (.aload_n 0, 1) := dk_42 (dk_at dksX3_way_1 19 rfl rfl)
theorem dX3_way_42 : decode cX3_way 42 = .ok (.iload_n 1, 1) := dk_27 (dk_at dksX3_way_1 20 rfl rfl)
theorem dX3_way_43 : decode cX3_way 43 = .ok (.iload_n 2, 1) := dk_28 (dk_at dksX3_way_1 21 rfl rfl)
theorem dX3_way_44 : decode cX3_way 44 = .ok (.iload_n 3, 1) := dk_29 (dk_at dksX3_way_1 22 rfl rfl)
theorem dX3_way_45 : decode cX3_way 45 = .ok (.iload 4, 2) := dk_21 4 (dk_at dksX3_way_2 0 rfl rfl)
theorem dX3_way_47 : decode cX3_way 47 = .ok (.invokevirtual 283, 3) := dk_182 1 27 (dk_at dksX3_way_2 2 rfl rfl)
theorem dX3_way_50 : decode cX3_way 50 = .ok (.goto 4, 3) := dk_167 0 4 (dk_at dksX3_way_2 5 rfl rfl)
theorem dX3_way_53 : decode cX3_way 53 = .ok (.iconst (-1), 1) := dk_2 (dk_at dksX3_way_2 8 rfl rfl)
theorem dX3_way_54 : decode cX3_way 54 = .ok (.ireturn, 1) := dk_172 (dk_at dksX3_way_2 9 rfl rfl)
abbrev cX3_wayOf : ByteArray := prog_26_method_31_code
def yX3_wayOf : MethodName := ⟨RX3, "wayOf", "(IIII)I"⟩
def dkwX3_wayOf_11 : List UInt8 := [180, 0, 47, 28, 46, 16, 96, 162, 0, 12, 42, 180, 0, 47, 28, 46, 167, 0, 5, 16, 252, 172]
abbrev dktX3_wayOf_11 : List UInt8 := dkwX3_wayOf_11 ++ []
def dkwX3_wayOf_10 : List UInt8 := [180, 0, 47, 21, 6, 46, 21, 8, 96, 79, 132, 7, 1, 167, 255, 157, 132, 5, 1, 167, 255, 47, 42]
abbrev dktX3_wayOf_10 : List UInt8 := dkwX3_wayOf_10 ++ dktX3_wayOf_11
def dkwX3_wayOf_9 : List UInt8 := [180, 0, 16, 21, 7, 46, 46, 162, 0, 25, 42, 180, 0, 47, 42, 180, 0, 16, 21, 7, 46, 42]
abbrev dktX3_wayOf_9 : List UInt8 := dkwX3_wayOf_9 ++ dktX3_wayOf_10
def dkwX3_wayOf_8 : List UInt8 := [54, 8, 21, 8, 16, 251, 159, 0, 50, 42, 180, 0, 47, 21, 6, 46, 21, 8, 96, 42, 180, 0, 47, 42]
abbrev dktX3_wayOf_8 : List UInt8 := dkwX3_wayOf_8 ++ dktX3_wayOf_9
def dkwX3_wayOf_7 : List UInt8 := [21, 6, 160, 0, 20, 42, 21, 7, 29, 42, 180, 0, 47, 21, 6, 46, 182, 1, 21, 167, 0, 5, 16, 251]
abbrev dktX3_wayOf_7 : List UInt8 := dkwX3_wayOf_7 ++ dktX3_wayOf_8
def dkwX3_wayOf_6 : List UInt8 := [21, 6, 4, 84, 3, 54, 7, 21, 7, 42, 180, 0, 218, 162, 0, 96, 42, 180, 0, 13, 21, 7, 46]
abbrev dktX3_wayOf_6 : List UInt8 := dkwX3_wayOf_6 ++ dktX3_wayOf_7
def dkwX3_wayOf_5 : List UInt8 := [167, 0, 5, 21, 6, 54, 6, 132, 7, 1, 167, 255, 189, 21, 6, 16, 252, 159, 0, 116, 42, 180, 0, 50]
abbrev dktX3_wayOf_5 : List UInt8 := dkwX3_wayOf_5 ++ dktX3_wayOf_6
def dkwX3_wayOf_4 : List UInt8 := [16, 252, 159, 0, 20, 42, 180, 0, 47, 21, 7, 46, 42, 180, 0, 47, 21, 6, 46, 162, 0, 8, 21, 7]
abbrev dktX3_wayOf_4 : List UInt8 := dkwX3_wayOf_4 ++ dktX3_wayOf_5
def dkwX3_wayOf_3 : List UInt8 := [180, 0, 50, 21, 7, 51, 154, 0, 44, 42, 180, 0, 47, 21, 7, 46, 16, 96, 162, 0, 32, 21, 6]
abbrev dktX3_wayOf_3 : List UInt8 := dkwX3_wayOf_3 ++ dktX3_wayOf_4
def dkwX3_wayOf_2 : List UInt8 := [180, 0, 211, 162, 0, 206, 16, 252, 54, 6, 3, 54, 7, 21, 7, 42, 180, 0, 211, 162, 0, 64, 42]
abbrev dktX3_wayOf_2 : List UInt8 := dkwX3_wayOf_2 ++ dktX3_wayOf_3
def dkwX3_wayOf_1 : List UInt8 := [21, 5, 3, 84, 132, 5, 1, 167, 255, 228, 42, 180, 0, 47, 27, 21, 4, 79, 3, 54, 5, 21, 5, 42]
abbrev dktX3_wayOf_1 : List UInt8 := dkwX3_wayOf_1 ++ dktX3_wayOf_2
def dkwX3_wayOf_0 : List UInt8 := [3, 54, 5, 21, 5, 16, 12, 162, 0, 27, 42, 180, 0, 47, 21, 5, 17, 3, 232, 79, 42, 180, 0, 50]
abbrev dktX3_wayOf_0 : List UInt8 := dkwX3_wayOf_0 ++ dktX3_wayOf_1
theorem dksX3_wayOf_0 : cX3_wayOf.data.toList.drop 0 = dktX3_wayOf_0 := by decide +kernel
theorem dksX3_wayOf_1 : cX3_wayOf.data.toList.drop 24 = dktX3_wayOf_1 := dk_seg dksX3_wayOf_0 24 rfl rfl
theorem dksX3_wayOf_2 : cX3_wayOf.data.toList.drop 48 = dktX3_wayOf_2 := dk_seg dksX3_wayOf_1 24 rfl rfl
theorem dksX3_wayOf_3 : cX3_wayOf.data.toList.drop 71 = dktX3_wayOf_3 := dk_seg dksX3_wayOf_2 23 rfl rfl
theorem dksX3_wayOf_4 : cX3_wayOf.data.toList.drop 94 = dktX3_wayOf_4 := dk_seg dksX3_wayOf_3 23 rfl rfl
theorem dksX3_wayOf_5 : cX3_wayOf.data.toList.drop 118 = dktX3_wayOf_5 := dk_seg dksX3_wayOf_4 24 rfl rfl
theorem dksX3_wayOf_6 : cX3_wayOf.data.toList.drop 142 = dktX3_wayOf_6 := dk_seg dksX3_wayOf_5 24 rfl rfl
theorem dksX3_wayOf_7 : cX3_wayOf.data.toList.drop 165 = dktX3_wayOf_7 := dk_seg dksX3_wayOf_6 23 rfl rfl
theorem dksX3_wayOf_8 : cX3_wayOf.data.toList.drop 189 = dktX3_wayOf_8 := dk_seg dksX3_wayOf_7 24 rfl rfl
theorem dksX3_wayOf_9 : cX3_wayOf.data.toList.drop 213 = dktX3_wayOf_9 := dk_seg dksX3_wayOf_8 24 rfl rfl
theorem dksX3_wayOf_10 : cX3_wayOf.data.toList.drop 235 = dktX3_wayOf_10 := dk_seg dksX3_wayOf_9 22 rfl rfl
theorem dksX3_wayOf_11 : cX3_wayOf.data.toList.drop 258 = dktX3_wayOf_11 := dk_seg dksX3_wayOf_10 23 rfl rfl
theorem dX3_wayOf_0 : decode cX3_wayOf 0 = .ok (.iconst 0, 1) := dk_3 (dk_at dksX3_wayOf_0 0 rfl rfl)
theorem dX3_wayOf_1 : decode cX3_wayOf 1 = .ok (.istore 5, 2) := dk_54 5 (dk_at dksX3_wayOf_0 1 rfl rfl)
theorem dX3_wayOf_3 : decode cX3_wayOf 3 = .ok (.iload 5, 2) := dk_21 5 (dk_at dksX3_wayOf_0 3 rfl rfl)
theorem dX3_wayOf_5 : decode cX3_wayOf 5 = .ok (.bipush 12, 2) := dk_16 12 (dk_at dksX3_wayOf_0 5 rfl rfl)
theorem dX3_wayOf_7 : decode cX3_wayOf 7 = .ok (.if_icmp .ge 27, 3) := dk_162 0 27 (dk_at dksX3_wayOf_0 7 rfl rfl)
theorem dX3_wayOf_10 : decode cX3_wayOf 10 = .ok (.aload_n 0, 1) := dk_42 (dk_at dksX3_wayOf_0 10 rfl rfl)
theorem dX3_wayOf_11 : decode cX3_wayOf 11 = .ok (.getfield 47, 3) := dk_180 0 47 (dk_at dksX3_wayOf_0 11 rfl rfl)
theorem dX3_wayOf_14 : decode cX3_wayOf 14 = .ok (.iload 5, 2) := dk_21 5 (dk_at dksX3_wayOf_0 14 rfl rfl)
theorem dX3_wayOf_16 : decode cX3_wayOf 16 = .ok (.sipush 1000, 3) := dk_17 3 232 (dk_at dksX3_wayOf_0 16 rfl rfl)
theorem dX3_wayOf_19 : decode cX3_wayOf 19 = .ok (.iastore, 1) := dk_79 (dk_at dksX3_wayOf_0 19 rfl rfl)
theorem dX3_wayOf_20 : decode cX3_wayOf 20 = .ok (.aload_n 0, 1) := dk_42 (dk_at dksX3_wayOf_0 20 rfl rfl)
theorem dX3_wayOf_21 : decode cX3_wayOf 21 = .ok (.getfield 50, 3) := dk_180 0 50 (dk_at dksX3_wayOf_0 21 rfl rfl)
theorem dX3_wayOf_24 : decode cX3_wayOf 24 = .ok (.iload 5, 2) := dk_21 5 (dk_at dksX3_wayOf_1 0 rfl rfl)
theorem dX3_wayOf_26 : decode cX3_wayOf 26 = .ok (.iconst 0, 1) := dk_3 (dk_at dksX3_wayOf_1 2 rfl rfl)
theorem dX3_wayOf_27 : decode cX3_wayOf 27 = .ok (.bastore, 1) := dk_84 (dk_at dksX3_wayOf_1 3 rfl rfl)
theorem dX3_wayOf_28 : decode cX3_wayOf 28 = .ok (.iinc 5 1, 3) := dk_132 5 1 (dk_at dksX3_wayOf_1 4 rfl rfl)
theorem dX3_wayOf_31 : decode cX3_wayOf 31 = .ok (.goto (-28), 3) := dk_167 255 228 (dk_at dksX3_wayOf_1 7 rfl rfl)
theorem dX3_wayOf_34 : decode cX3_wayOf 34 = .ok (.aload_n 0, 1) := dk_42 (dk_at dksX3_wayOf_1 10 rfl rfl)
theorem dX3_wayOf_35 : decode cX3_wayOf 35 = .ok (.getfield 47, 3) := dk_180 0 47 (dk_at dksX3_wayOf_1 11 rfl rfl)
theorem dX3_wayOf_38 : decode cX3_wayOf 38 = .ok (.iload_n 1, 1) := dk_27 (dk_at dksX3_wayOf_1 14 rfl rfl)
theorem dX3_wayOf_39 : decode cX3_wayOf 39 = .ok (.iload 4, 2) := dk_21 4 (dk_at dksX3_wayOf_1 15 rfl rfl)
theorem dX3_wayOf_41 : decode cX3_wayOf 41 = .ok (.iastore, 1) := dk_79 (dk_at dksX3_wayOf_1 17 rfl rfl)
theorem dX3_wayOf_42 : decode cX3_wayOf 42 = .ok (.iconst 0, 1) := dk_3 (dk_at dksX3_wayOf_1 18 rfl rfl)
theorem dX3_wayOf_43 : decode cX3_wayOf 43 = .ok (.istore 5, 2) := dk_54 5 (dk_at dksX3_wayOf_1 19 rfl rfl)
theorem dX3_wayOf_45 : decode cX3_wayOf 45 = .ok (.iload 5, 2) := dk_21 5 (dk_at dksX3_wayOf_1 21 rfl rfl)
theorem dX3_wayOf_47 : decode cX3_wayOf 47 = .ok (.aload_n 0, 1) := dk_42 (dk_at dksX3_wayOf_1 23 rfl rfl)
theorem dX3_wayOf_48 : decode cX3_wayOf 48 = .ok (.getfield 211, 3) := dk_180 0 211 (dk_at dksX3_wayOf_2 0 rfl rfl)
theorem dX3_wayOf_51 : decode cX3_wayOf 51 = .ok (.if_icmp .ge 206, 3) := dk_162 0 206 (dk_at dksX3_wayOf_2 3 rfl rfl)
theorem dX3_wayOf_54 : decode cX3_wayOf 54 = .ok (.bipush (-4), 2) := dk_16 252 (dk_at dksX3_wayOf_2 6 rfl rfl)
theorem dX3_wayOf_56 : decode cX3_wayOf 56 = .ok (.istore 6, 2) := dk_54 6 (dk_at dksX3_wayOf_2 8 rfl rfl)
theorem dX3_wayOf_58 : decode cX3_wayOf 58 = .ok (.iconst 0, 1) := dk_3 (dk_at dksX3_wayOf_2 10 rfl rfl)
theorem dX3_wayOf_59 : decode cX3_wayOf 59 = .ok (.istore 7, 2) := dk_54 7 (dk_at dksX3_wayOf_2 11 rfl rfl)
theorem dX3_wayOf_61 : decode cX3_wayOf 61 = .ok (.iload 7, 2) := dk_21 7 (dk_at dksX3_wayOf_2 13 rfl rfl)
theorem dX3_wayOf_63 : decode cX3_wayOf 63 = .ok (.aload_n 0, 1) := dk_42 (dk_at dksX3_wayOf_2 15 rfl rfl)
theorem dX3_wayOf_64 : decode cX3_wayOf 64 = .ok (.getfield 211, 3) := dk_180 0 211 (dk_at dksX3_wayOf_2 16 rfl rfl)
theorem dX3_wayOf_67 : decode cX3_wayOf 67 = .ok (.if_icmp .ge 64, 3) := dk_162 0 64 (dk_at dksX3_wayOf_2 19 rfl rfl)
theorem dX3_wayOf_70 : decode cX3_wayOf 70 = .ok (.aload_n 0, 1) := dk_42 (dk_at dksX3_wayOf_2 22 rfl rfl)
theorem dX3_wayOf_71 : decode cX3_wayOf 71 = .ok (.getfield 50, 3) := dk_180 0 50 (dk_at dksX3_wayOf_3 0 rfl rfl)
theorem dX3_wayOf_74 : decode cX3_wayOf 74 = .ok (.iload 7, 2) := dk_21 7 (dk_at dksX3_wayOf_3 3 rfl rfl)
theorem dX3_wayOf_76 : decode cX3_wayOf 76 = .ok (.baload, 1) := dk_51 (dk_at dksX3_wayOf_3 5 rfl rfl)
theorem dX3_wayOf_77 : decode cX3_wayOf 77 = .ok (.ifCond .ne 44, 3) := dk_154 0 44 (dk_at dksX3_wayOf_3 6 rfl rfl)
theorem dX3_wayOf_80 : decode cX3_wayOf 80 = .ok (.aload_n 0, 1) := dk_42 (dk_at dksX3_wayOf_3 9 rfl rfl)
theorem dX3_wayOf_81 : decode cX3_wayOf 81 = .ok (.getfield 47, 3) := dk_180 0 47 (dk_at dksX3_wayOf_3 10 rfl rfl)
theorem dX3_wayOf_84 : decode cX3_wayOf 84 = .ok (.iload 7, 2) := dk_21 7 (dk_at dksX3_wayOf_3 13 rfl rfl)
theorem dX3_wayOf_86 : decode cX3_wayOf 86 = .ok (.iaload, 1) := dk_46 (dk_at dksX3_wayOf_3 15 rfl rfl)
theorem dX3_wayOf_87 : decode cX3_wayOf 87 = .ok (.bipush 96, 2) := dk_16 96 (dk_at dksX3_wayOf_3 16 rfl rfl)
theorem dX3_wayOf_89 : decode cX3_wayOf 89 = .ok (.if_icmp .ge 32, 3) := dk_162 0 32 (dk_at dksX3_wayOf_3 18 rfl rfl)
theorem dX3_wayOf_92 : decode cX3_wayOf 92 = .ok (.iload 6, 2) := dk_21 6 (dk_at dksX3_wayOf_3 21 rfl rfl)
theorem dX3_wayOf_94 : decode cX3_wayOf 94 = .ok (.bipush (-4), 2) := dk_16 252 (dk_at dksX3_wayOf_4 0 rfl rfl)
theorem dX3_wayOf_96 : decode cX3_wayOf 96 = .ok (.if_icmp .eq 20, 3) := dk_159 0 20 (dk_at dksX3_wayOf_4 2 rfl rfl)
theorem dX3_wayOf_99 : decode cX3_wayOf 99 = .ok (.aload_n 0, 1) := dk_42 (dk_at dksX3_wayOf_4 5 rfl rfl)
theorem dX3_wayOf_100 : decode cX3_wayOf 100 = .ok (.getfield 47, 3) := dk_180 0 47 (dk_at dksX3_wayOf_4 6 rfl rfl)
theorem dX3_wayOf_103 : decode cX3_wayOf 103 = .ok (.iload 7, 2) := dk_21 7 (dk_at dksX3_wayOf_4 9 rfl rfl)
theorem dX3_wayOf_105 : decode cX3_wayOf 105 = .ok (.iaload, 1) := dk_46 (dk_at dksX3_wayOf_4 11 rfl rfl)
theorem dX3_wayOf_106 : decode cX3_wayOf 106 = .ok (.aload_n 0, 1) := dk_42 (dk_at dksX3_wayOf_4 12 rfl rfl)
theorem dX3_wayOf_107 : decode cX3_wayOf 107 = .ok (.getfield 47, 3) := dk_180 0 47 (dk_at dksX3_wayOf_4 13 rfl rfl)
theorem dX3_wayOf_110 : decode cX3_wayOf 110 = .ok (.iload 6, 2) := dk_21 6 (dk_at dksX3_wayOf_4 16 rfl rfl)
theorem dX3_wayOf_112 : decode cX3_wayOf 112 = .ok (.iaload, 1) := dk_46 (dk_at dksX3_wayOf_4 18 rfl rfl)
theorem dX3_wayOf_113 : decode cX3_wayOf 113 = .ok (.if_icmp .ge 8, 3) := dk_162 0 8 (dk_at dksX3_wayOf_4 19 rfl rfl)
theorem dX3_wayOf_116 : decode cX3_wayOf 116 = .ok (.iload 7, 2) := dk_21 7 (dk_at dksX3_wayOf_4 22 rfl rfl)
theorem dX3_wayOf_118 : decode cX3_wayOf 118 = .ok (.goto 5, 3) := dk_167 0 5 (dk_at dksX3_wayOf_5 0 rfl rfl)
theorem dX3_wayOf_121 : decode cX3_wayOf 121 = .ok (.iload 6, 2) := dk_21 6 (dk_at dksX3_wayOf_5 3 rfl rfl)
theorem dX3_wayOf_123 : decode cX3_wayOf 123 = .ok (.istore 6, 2) := dk_54 6 (dk_at dksX3_wayOf_5 5 rfl rfl)
theorem dX3_wayOf_125 : decode cX3_wayOf 125 = .ok (.iinc 7 1, 3) := dk_132 7 1 (dk_at dksX3_wayOf_5 7 rfl rfl)
theorem dX3_wayOf_128 : decode cX3_wayOf 128 = .ok (.goto (-67), 3) := dk_167 255 189 (dk_at dksX3_wayOf_5 10 rfl rfl)
theorem dX3_wayOf_131 : decode cX3_wayOf 131 = .ok (.iload 6, 2) := dk_21 6 (dk_at dksX3_wayOf_5 13 rfl rfl)
theorem dX3_wayOf_133 : decode cX3_wayOf 133 = .ok (.bipush (-4), 2) := dk_16 252 (dk_at dksX3_wayOf_5 15 rfl rfl)
theorem dX3_wayOf_135 : decode cX3_wayOf 135 = .ok (.if_icmp .eq 116, 3) := dk_159 0 116 (dk_at dksX3_wayOf_5 17 rfl rfl)
theorem dX3_wayOf_138 : decode cX3_wayOf 138 = .ok (.aload_n 0, 1) := dk_42 (dk_at dksX3_wayOf_5 20 rfl rfl)
theorem dX3_wayOf_139 : decode cX3_wayOf 139 = .ok (.getfield 50, 3) := dk_180 0 50 (dk_at dksX3_wayOf_5 21 rfl rfl)
theorem dX3_wayOf_142 : decode cX3_wayOf 142 = .ok (.iload 6, 2) := dk_21 6 (dk_at dksX3_wayOf_6 0 rfl rfl)
theorem dX3_wayOf_144 : decode cX3_wayOf 144 = .ok (.iconst 1, 1) := dk_4 (dk_at dksX3_wayOf_6 2 rfl rfl)
theorem dX3_wayOf_145 : decode cX3_wayOf 145 = .ok (.bastore, 1) := dk_84 (dk_at dksX3_wayOf_6 3 rfl rfl)
theorem dX3_wayOf_146 : decode cX3_wayOf 146 = .ok (.iconst 0, 1) := dk_3 (dk_at dksX3_wayOf_6 4 rfl rfl)
theorem dX3_wayOf_147 : decode cX3_wayOf 147 = .ok (.istore 7, 2) := dk_54 7 (dk_at dksX3_wayOf_6 5 rfl rfl)
theorem dX3_wayOf_149 : decode cX3_wayOf 149 = .ok (.iload 7, 2) := dk_21 7 (dk_at dksX3_wayOf_6 7 rfl rfl)
theorem dX3_wayOf_151 : decode cX3_wayOf 151 = .ok (.aload_n 0, 1) := dk_42 (dk_at dksX3_wayOf_6 9 rfl rfl)
theorem dX3_wayOf_152 : decode cX3_wayOf 152 = .ok (.getfield 218, 3) := dk_180 0 218 (dk_at dksX3_wayOf_6 10 rfl rfl)
theorem dX3_wayOf_155 : decode cX3_wayOf 155 = .ok (.if_icmp .ge 96, 3) := dk_162 0 96 (dk_at dksX3_wayOf_6 13 rfl rfl)
theorem dX3_wayOf_158 : decode cX3_wayOf 158 = .ok (.aload_n 0, 1) := dk_42 (dk_at dksX3_wayOf_6 16 rfl rfl)
theorem dX3_wayOf_159 : decode cX3_wayOf 159 = .ok (.getfield 13, 3) := dk_180 0 13 (dk_at dksX3_wayOf_6 17 rfl rfl)
theorem dX3_wayOf_162 : decode cX3_wayOf 162 = .ok (.iload 7, 2) := dk_21 7 (dk_at dksX3_wayOf_6 20 rfl rfl)
theorem dX3_wayOf_164 : decode cX3_wayOf 164 = .ok (.iaload, 1) := dk_46 (dk_at dksX3_wayOf_6 22 rfl rfl)
theorem dX3_wayOf_165 : decode cX3_wayOf 165 = .ok (.iload 6, 2) := dk_21 6 (dk_at dksX3_wayOf_7 0 rfl rfl)
theorem dX3_wayOf_167 : decode cX3_wayOf 167 = .ok (.if_icmp .ne 20, 3) := dk_160 0 20 (dk_at dksX3_wayOf_7 2 rfl rfl)
theorem dX3_wayOf_170 : decode cX3_wayOf 170 = .ok (.aload_n 0, 1) := dk_42 (dk_at dksX3_wayOf_7 5 rfl rfl)
theorem dX3_wayOf_171 : decode cX3_wayOf 171 = .ok (.iload 7, 2) := dk_21 7 (dk_at dksX3_wayOf_7 6 rfl rfl)
theorem dX3_wayOf_173 : decode cX3_wayOf 173 = .ok (.iload_n 3, 1) := dk_29 (dk_at dksX3_wayOf_7 8 rfl rfl)
theorem dX3_wayOf_174 : decode cX3_wayOf 174 = .ok (.aload_n 0, 1) := dk_42 (dk_at dksX3_wayOf_7 9 rfl rfl)
theorem dX3_wayOf_175 : decode cX3_wayOf 175 = .ok (.getfield 47, 3) := dk_180 0 47 (dk_at dksX3_wayOf_7 10 rfl rfl)
theorem dX3_wayOf_178 : decode cX3_wayOf 178 = .ok (.iload 6, 2) := dk_21 6 (dk_at dksX3_wayOf_7 13 rfl rfl)
theorem dX3_wayOf_180 : decode cX3_wayOf 180 = .ok (.iaload, 1) := dk_46 (dk_at dksX3_wayOf_7 15 rfl rfl)
theorem dX3_wayOf_181 : decode cX3_wayOf 181 = .ok (.invokevirtual 277, 3) := dk_182 1 21 (dk_at dksX3_wayOf_7 16 rfl rfl)
theorem dX3_wayOf_184 : decode cX3_wayOf 184 = .ok (.goto 5, 3) := dk_167 0 5 (dk_at dksX3_wayOf_7 19 rfl rfl)
theorem dX3_wayOf_187 : decode cX3_wayOf 187 = .ok (.bipush (-5), 2) := dk_16 251 (dk_at dksX3_wayOf_7 22 rfl rfl)
theorem dX3_wayOf_189 : decode cX3_wayOf 189 = .ok (.istore 8, 2) := dk_54 8 (dk_at dksX3_wayOf_8 0 rfl rfl)
theorem dX3_wayOf_191 : decode cX3_wayOf 191 = .ok (.iload 8, 2) := dk_21 8 (dk_at dksX3_wayOf_8 2 rfl rfl)
theorem dX3_wayOf_193 : decode cX3_wayOf 193 = .ok (.bipush (-5), 2) := dk_16 251 (dk_at dksX3_wayOf_8 4 rfl rfl)
theorem dX3_wayOf_195 : decode cX3_wayOf 195 = .ok (.if_icmp .eq 50, 3) := dk_159 0 50 (dk_at dksX3_wayOf_8 6 rfl rfl)
theorem dX3_wayOf_198 : decode cX3_wayOf 198 = .ok (.aload_n 0, 1) := dk_42 (dk_at dksX3_wayOf_8 9 rfl rfl)
theorem dX3_wayOf_199 : decode cX3_wayOf 199 = .ok (.getfield 47, 3) := dk_180 0 47 (dk_at dksX3_wayOf_8 10 rfl rfl)
theorem dX3_wayOf_202 : decode cX3_wayOf 202 = .ok (.iload 6, 2) := dk_21 6 (dk_at dksX3_wayOf_8 13 rfl rfl)
theorem dX3_wayOf_204 : decode cX3_wayOf 204 = .ok (.iaload, 1) := dk_46 (dk_at dksX3_wayOf_8 15 rfl rfl)
theorem dX3_wayOf_205 : decode cX3_wayOf 205 = .ok (.iload 8, 2) := dk_21 8 (dk_at dksX3_wayOf_8 16 rfl rfl)
theorem dX3_wayOf_207 : decode cX3_wayOf 207 = .ok (.iadd, 1) := dk_96 (dk_at dksX3_wayOf_8 18 rfl rfl)
theorem dX3_wayOf_208 : decode cX3_wayOf 208 = .ok (.aload_n 0, 1) := dk_42 (dk_at dksX3_wayOf_8 19 rfl rfl)
theorem dX3_wayOf_209 : decode cX3_wayOf 209 = .ok (.getfield 47, 3) := dk_180 0 47 (dk_at dksX3_wayOf_8 20 rfl rfl)
theorem dX3_wayOf_212 : decode cX3_wayOf 212 = .ok (.aload_n 0, 1) := dk_42 (dk_at dksX3_wayOf_8 23 rfl rfl)
theorem dX3_wayOf_213 : decode cX3_wayOf 213 = .ok (.getfield 16, 3) := dk_180 0 16 (dk_at dksX3_wayOf_9 0 rfl rfl)
theorem dX3_wayOf_216 : decode cX3_wayOf 216 = .ok (.iload 7, 2) := dk_21 7 (dk_at dksX3_wayOf_9 3 rfl rfl)
theorem dX3_wayOf_218 : decode cX3_wayOf 218 = .ok (.iaload, 1) := dk_46 (dk_at dksX3_wayOf_9 5 rfl rfl)
theorem dX3_wayOf_219 : decode cX3_wayOf 219 = .ok (.iaload, 1) := dk_46 (dk_at dksX3_wayOf_9 6 rfl rfl)
theorem dX3_wayOf_220 : decode cX3_wayOf 220 = .ok (.if_icmp .ge 25, 3) := dk_162 0 25 (dk_at dksX3_wayOf_9 7 rfl rfl)
theorem dX3_wayOf_223 : decode cX3_wayOf 223 = .ok (.aload_n 0, 1) := dk_42 (dk_at dksX3_wayOf_9 10 rfl rfl)
theorem dX3_wayOf_224 : decode cX3_wayOf 224 = .ok (.getfield 47, 3) := dk_180 0 47 (dk_at dksX3_wayOf_9 11 rfl rfl)
theorem dX3_wayOf_227 : decode cX3_wayOf 227 = .ok (.aload_n 0, 1) := dk_42 (dk_at dksX3_wayOf_9 14 rfl rfl)
theorem dX3_wayOf_228 : decode cX3_wayOf 228 = .ok (.getfield 16, 3) := dk_180 0 16 (dk_at dksX3_wayOf_9 15 rfl rfl)
theorem dX3_wayOf_231 : decode cX3_wayOf 231 = .ok (.iload 7, 2) := dk_21 7 (dk_at dksX3_wayOf_9 18 rfl rfl)
theorem dX3_wayOf_233 : decode cX3_wayOf 233 = .ok (.iaload, 1) := dk_46 (dk_at dksX3_wayOf_9 20 rfl rfl)
theorem dX3_wayOf_234 : decode cX3_wayOf 234 = .ok (.aload_n 0, 1) := dk_42 (dk_at dksX3_wayOf_9 21 rfl rfl)
theorem dX3_wayOf_235 : decode cX3_wayOf 235 = .ok (.getfield 47, 3) := dk_180 0 47 (dk_at dksX3_wayOf_10 0 rfl rfl)
theorem dX3_wayOf_238 : decode cX3_wayOf 238 = .ok (.iload 6, 2) := dk_21 6 (dk_at dksX3_wayOf_10 3 rfl rfl)
theorem dX3_wayOf_240 : decode cX3_wayOf 240 = .ok (.iaload, 1) := dk_46 (dk_at dksX3_wayOf_10 5 rfl rfl)
theorem dX3_wayOf_241 : decode cX3_wayOf 241 = .ok (.iload 8, 2) := dk_21 8 (dk_at dksX3_wayOf_10 6 rfl rfl)
theorem dX3_wayOf_243 : decode cX3_wayOf 243 = .ok (.iadd, 1) := dk_96 (dk_at dksX3_wayOf_10 8 rfl rfl)
theorem dX3_wayOf_244 : decode cX3_wayOf 244 = .ok (.iastore, 1) := dk_79 (dk_at dksX3_wayOf_10 9 rfl rfl)
theorem dX3_wayOf_245 : decode cX3_wayOf 245 = .ok (.iinc 7 1, 3) := dk_132 7 1 (dk_at dksX3_wayOf_10 10 rfl rfl)
theorem dX3_wayOf_248 : decode cX3_wayOf 248 = .ok (.goto (-99), 3) := dk_167 255 157 (dk_at dksX3_wayOf_10 13 rfl rfl)
theorem dX3_wayOf_251 : decode cX3_wayOf 251 = .ok (.iinc 5 1, 3) := dk_132 5 1 (dk_at dksX3_wayOf_10 16 rfl rfl)
theorem dX3_wayOf_254 : decode cX3_wayOf 254 = .ok (.goto (-209), 3) := dk_167 255 47 (dk_at dksX3_wayOf_10 19 rfl rfl)
theorem dX3_wayOf_257 : decode cX3_wayOf 257 = .ok (.aload_n 0, 1) := dk_42 (dk_at dksX3_wayOf_10 22 rfl rfl)
theorem dX3_wayOf_258 : decode cX3_wayOf 258 = .ok (.getfield 47, 3) := dk_180 0 47 (dk_at dksX3_wayOf_11 0 rfl rfl)
theorem dX3_wayOf_261 : decode cX3_wayOf 261 = .ok (.iload_n 2, 1) := dk_28 (dk_at dksX3_wayOf_11 3 rfl rfl)
theorem dX3_wayOf_262 : decode cX3_wayOf 262 = .ok (.iaload, 1) := dk_46 (dk_at dksX3_wayOf_11 4 rfl rfl)
theorem dX3_wayOf_263 : decode cX3_wayOf 263 = .ok (.bipush 96, 2) := dk_16 96 (dk_at dksX3_wayOf_11 5 rfl rfl)
theorem dX3_wayOf_265 : decode cX3_wayOf 265 = .ok (.if_icmp .ge 12, 3) := dk_162 0 12 (dk_at dksX3_wayOf_11 7 rfl rfl)
theorem dX3_wayOf_268 : decode cX3_wayOf 268 = .ok (.aload_n 0, 1) := dk_42 (dk_at dksX3_wayOf_11 10 rfl rfl)
theorem dX3_wayOf_269 : decode cX3_wayOf 269 = .ok (.getfield 47, 3) := dk_180 0 47 (dk_at dksX3_wayOf_11 11 rfl rfl)
theorem dX3_wayOf_272 : decode cX3_wayOf 272 = .ok (.iload_n 2, 1) := dk_28 (dk_at dksX3_wayOf_11 14 rfl rfl)
theorem dX3_wayOf_273 : decode cX3_wayOf 273 = .ok (.iaload, 1) := dk_46 (dk_at dksX3_wayOf_11 15 rfl rfl)
theorem dX3_wayOf_274 : decode cX3_wayOf 274 = .ok (.goto 5, 3) := dk_167 0 5 (dk_at dksX3_wayOf_11 16 rfl rfl)
theorem dX3_wayOf_277 : decode cX3_wayOf 277 = .ok (.bipush (-4), 2) := dk_16 252 (dk_at dksX3_wayOf_11 19 rfl rfl)
theorem dX3_wayOf_279 : decode cX3_wayOf 279 = .ok (.ireturn, 1) := dk_172 (dk_at dksX3_wayOf_11 21 rfl rfl)
abbrev cX3_guide : ByteArray := prog_26_method_34_code
def yX3_guide : MethodName := ⟨RX3, "guide", "(III)I"⟩
def dkwX3_guide_5 : List UInt8 := [180, 1, 31, 79, 42, 89, 180, 1, 31, 4, 96, 181, 1, 31, 42, 180, 1, 31, 4, 100, 172]
abbrev dktX3_guide_5 : List UInt8 := dkwX3_guide_5 ++ []
def dkwX3_guide_4 : List UInt8 := [180, 1, 31, 3, 79, 42, 180, 0, 68, 42, 180, 1, 31, 3, 79, 42, 180, 0, 71, 42, 180, 1, 31, 42]
abbrev dktX3_guide_4 : List UInt8 := dkwX3_guide_4 ++ dktX3_guide_5
def dkwX3_guide_3 : List UInt8 := [180, 0, 59, 42, 180, 1, 31, 29, 79, 42, 180, 0, 62, 42, 180, 1, 31, 3, 84, 42, 180, 0, 65, 42]
abbrev dktX3_guide_3 : List UInt8 := dkwX3_guide_3 ++ dktX3_guide_4
def dkwX3_guide_2 : List UInt8 := [16, 253, 172, 42, 180, 0, 53, 42, 180, 1, 31, 27, 79, 42, 180, 0, 56, 42, 180, 1, 31, 28, 79, 42]
abbrev dktX3_guide_2 : List UInt8 := dkwX3_guide_2 ++ dktX3_guide_3
def dkwX3_guide_1 : List UInt8 := [29, 133, 9, 20, 1, 34, 184, 0, 214, 154, 0, 5, 2, 172, 42, 180, 1, 31, 16, 8, 160, 0, 6]
abbrev dktX3_guide_1 : List UInt8 := dkwX3_guide_1 ++ dktX3_guide_2
def dkwX3_guide_0 : List UInt8 := [27, 133, 9, 20, 0, 232, 184, 0, 214, 153, 0, 27, 28, 133, 9, 20, 0, 224, 184, 0, 214, 153, 0, 15]
abbrev dktX3_guide_0 : List UInt8 := dkwX3_guide_0 ++ dktX3_guide_1
theorem dksX3_guide_0 : cX3_guide.data.toList.drop 0 = dktX3_guide_0 := by decide +kernel
theorem dksX3_guide_1 : cX3_guide.data.toList.drop 24 = dktX3_guide_1 := dk_seg dksX3_guide_0 24 rfl rfl
theorem dksX3_guide_2 : cX3_guide.data.toList.drop 47 = dktX3_guide_2 := dk_seg dksX3_guide_1 23 rfl rfl
theorem dksX3_guide_3 : cX3_guide.data.toList.drop 71 = dktX3_guide_3 := dk_seg dksX3_guide_2 24 rfl rfl
theorem dksX3_guide_4 : cX3_guide.data.toList.drop 95 = dktX3_guide_4 := dk_seg dksX3_guide_3 24 rfl rfl
theorem dksX3_guide_5 : cX3_guide.data.toList.drop 119 = dktX3_guide_5 := dk_seg dksX3_guide_4 24 rfl rfl
theorem dX3_guide_0 : decode cX3_guide 0 = .ok (.iload_n 1, 1) := dk_27 (dk_at dksX3_guide_0 0 rfl rfl)
theorem dX3_guide_1 : decode cX3_guide 1 = .ok (.i2l, 1) := dk_133 (dk_at dksX3_guide_0 1 rfl rfl)
theorem dX3_guide_2 : decode cX3_guide 2 = .ok (.lconst 0, 1) := dk_9 (dk_at dksX3_guide_0 2 rfl rfl)
theorem dX3_guide_3 : decode cX3_guide 3 = .ok (.ldc2_w 232, 3) := dk_20 0 232 (dk_at dksX3_guide_0 3 rfl rfl)
theorem dX3_guide_6 : decode cX3_guide 6 = .ok (.invokestatic 214, 3) := dk_184 0 214 (dk_at dksX3_guide_0 6 rfl rfl)
theorem dX3_guide_9 : decode cX3_guide 9 = .ok (.ifCond .eq 27, 3) := dk_153 0 27 (dk_at dksX3_guide_0 9 rfl rfl)
theorem dX3_guide_12 : decode cX3_guide 12 = .ok (.iload_n 2, 1) := dk_28 (dk_at dksX3_guide_0 12 rfl rfl)
theorem dX3_guide_13 : decode cX3_guide 13 = .ok (.i2l, 1) := dk_133 (dk_at dksX3_guide_0 13 rfl rfl)
theorem dX3_guide_14 : decode cX3_guide 14 = .ok (.lconst 0, 1) := dk_9 (dk_at dksX3_guide_0 14 rfl rfl)
theorem dX3_guide_15 : decode cX3_guide 15 = .ok (.ldc2_w 224, 3) := dk_20 0 224 (dk_at dksX3_guide_0 15 rfl rfl)
theorem dX3_guide_18 : decode cX3_guide 18 = .ok (.invokestatic 214, 3) := dk_184 0 214 (dk_at dksX3_guide_0 18 rfl rfl)
theorem dX3_guide_21 : decode cX3_guide 21 = .ok (.ifCond .eq 15, 3) := dk_153 0 15 (dk_at dksX3_guide_0 21 rfl rfl)
theorem dX3_guide_24 : decode cX3_guide 24 = .ok (.iload_n 3, 1) := dk_29 (dk_at dksX3_guide_1 0 rfl rfl)
theorem dX3_guide_25 : decode cX3_guide 25 = .ok (.i2l, 1) := dk_133 (dk_at dksX3_guide_1 1 rfl rfl)
theorem dX3_guide_26 : decode cX3_guide 26 = .ok (.lconst 0, 1) := dk_9 (dk_at dksX3_guide_1 2 rfl rfl)
theorem dX3_guide_27 : decode cX3_guide 27 = .ok (.ldc2_w 290, 3) := dk_20 1 34 (dk_at dksX3_guide_1 3 rfl rfl)
theorem dX3_guide_30 : decode cX3_guide 30 = .ok (.invokestatic 214, 3) := dk_184 0 214 (dk_at dksX3_guide_1 6 rfl rfl)
theorem dX3_guide_33 : decode cX3_guide 33 = .ok (.ifCond .ne 5, 3) := dk_154 0 5 (dk_at dksX3_guide_1 9 rfl rfl)
theorem dX3_guide_36 : decode cX3_guide 36 = .ok (.iconst (-1), 1) := dk_2 (dk_at dksX3_guide_1 12 rfl rfl)
theorem dX3_guide_37 : decode cX3_guide 37 = .ok (.ireturn, 1) := dk_172 (dk_at dksX3_guide_1 13 rfl rfl)
theorem dX3_guide_38 : decode cX3_guide 38 = .ok (.aload_n 0, 1) := dk_42 (dk_at dksX3_guide_1 14 rfl rfl)
theorem dX3_guide_39 : decode cX3_guide 39 = .ok (.getfield 287, 3) := dk_180 1 31 (dk_at dksX3_guide_1 15 rfl rfl)
theorem dX3_guide_42 : decode cX3_guide 42 = .ok (.bipush 8, 2) := dk_16 8 (dk_at dksX3_guide_1 18 rfl rfl)
theorem dX3_guide_44 : decode cX3_guide 44 = .ok (.if_icmp .ne 6, 3) := dk_160 0 6 (dk_at dksX3_guide_1 20 rfl rfl)
theorem dX3_guide_47 : decode cX3_guide 47 = .ok (.bipush (-3), 2) := dk_16 253 (dk_at dksX3_guide_2 0 rfl rfl)
theorem dX3_guide_49 : decode cX3_guide 49 = .ok (.ireturn, 1) := dk_172 (dk_at dksX3_guide_2 2 rfl rfl)
theorem dX3_guide_50 : decode cX3_guide 50 = .ok (.aload_n 0, 1) := dk_42 (dk_at dksX3_guide_2 3 rfl rfl)
theorem dX3_guide_51 : decode cX3_guide 51 = .ok (.getfield 53, 3) := dk_180 0 53 (dk_at dksX3_guide_2 4 rfl rfl)
theorem dX3_guide_54 : decode cX3_guide 54 = .ok (.aload_n 0, 1) := dk_42 (dk_at dksX3_guide_2 7 rfl rfl)
theorem dX3_guide_55 : decode cX3_guide 55 = .ok (.getfield 287, 3) := dk_180 1 31 (dk_at dksX3_guide_2 8 rfl rfl)
theorem dX3_guide_58 : decode cX3_guide 58 = .ok (.iload_n 1, 1) := dk_27 (dk_at dksX3_guide_2 11 rfl rfl)
theorem dX3_guide_59 : decode cX3_guide 59 = .ok (.iastore, 1) := dk_79 (dk_at dksX3_guide_2 12 rfl rfl)
theorem dX3_guide_60 : decode cX3_guide 60 = .ok (.aload_n 0, 1) := dk_42 (dk_at dksX3_guide_2 13 rfl rfl)
theorem dX3_guide_61 : decode cX3_guide 61 = .ok (.getfield 56, 3) := dk_180 0 56 (dk_at dksX3_guide_2 14 rfl rfl)
theorem dX3_guide_64 : decode cX3_guide 64 = .ok (.aload_n 0, 1) := dk_42 (dk_at dksX3_guide_2 17 rfl rfl)
theorem dX3_guide_65 : decode cX3_guide 65 = .ok (.getfield 287, 3) := dk_180 1 31 (dk_at dksX3_guide_2 18 rfl rfl)
theorem dX3_guide_68 : decode cX3_guide 68 = .ok (.iload_n 2, 1) := dk_28 (dk_at dksX3_guide_2 21 rfl rfl)
theorem dX3_guide_69 : decode cX3_guide 69 = .ok (.iastore, 1) := dk_79 (dk_at dksX3_guide_2 22 rfl rfl)
theorem dX3_guide_70 : decode cX3_guide 70 = .ok (.aload_n 0, 1) := dk_42 (dk_at dksX3_guide_2 23 rfl rfl)
theorem dX3_guide_71 : decode cX3_guide 71 = .ok (.getfield 59, 3) := dk_180 0 59 (dk_at dksX3_guide_3 0 rfl rfl)
theorem dX3_guide_74 : decode cX3_guide 74 = .ok (.aload_n 0, 1) := dk_42 (dk_at dksX3_guide_3 3 rfl rfl)
theorem dX3_guide_75 : decode cX3_guide 75 = .ok (.getfield 287, 3) := dk_180 1 31 (dk_at dksX3_guide_3 4 rfl rfl)
theorem dX3_guide_78 : decode cX3_guide 78 = .ok (.iload_n 3, 1) := dk_29 (dk_at dksX3_guide_3 7 rfl rfl)
theorem dX3_guide_79 : decode cX3_guide 79 = .ok (.iastore, 1) := dk_79 (dk_at dksX3_guide_3 8 rfl rfl)
theorem dX3_guide_80 : decode cX3_guide 80 = .ok (.aload_n 0, 1) := dk_42 (dk_at dksX3_guide_3 9 rfl rfl)
theorem dX3_guide_81 : decode cX3_guide 81 = .ok (.getfield 62, 3) := dk_180 0 62 (dk_at dksX3_guide_3 10 rfl rfl)
theorem dX3_guide_84 : decode cX3_guide 84 = .ok (.aload_n 0, 1) := dk_42 (dk_at dksX3_guide_3 13 rfl rfl)
theorem dX3_guide_85 : decode cX3_guide 85 = .ok (.getfield 287, 3) := dk_180 1 31 (dk_at dksX3_guide_3 14 rfl rfl)
theorem dX3_guide_88 : decode cX3_guide 88 = .ok (.iconst 0, 1) := dk_3 (dk_at dksX3_guide_3 17 rfl rfl)
theorem dX3_guide_89 : decode cX3_guide 89 = .ok (.bastore, 1) := dk_84 (dk_at dksX3_guide_3 18 rfl rfl)
theorem dX3_guide_90 : decode cX3_guide 90 = .ok (.aload_n 0, 1) := dk_42 (dk_at dksX3_guide_3 19 rfl rfl)
theorem dX3_guide_91 : decode cX3_guide 91 = .ok (.getfield 65, 3) := dk_180 0 65 (dk_at dksX3_guide_3 20 rfl rfl)
theorem dX3_guide_94 : decode cX3_guide 94 = .ok (.aload_n 0, 1) := dk_42 (dk_at dksX3_guide_3 23 rfl rfl)
theorem dX3_guide_95 : decode cX3_guide 95 = .ok (.getfield 287, 3) := dk_180 1 31 (dk_at dksX3_guide_4 0 rfl rfl)
theorem dX3_guide_98 : decode cX3_guide 98 = .ok (.iconst 0, 1) := dk_3 (dk_at dksX3_guide_4 3 rfl rfl)
theorem dX3_guide_99 : decode cX3_guide 99 = .ok (.iastore, 1) := dk_79 (dk_at dksX3_guide_4 4 rfl rfl)
theorem dX3_guide_100 : decode cX3_guide 100 = .ok (.aload_n 0, 1) := dk_42 (dk_at dksX3_guide_4 5 rfl rfl)
theorem dX3_guide_101 : decode cX3_guide 101 = .ok (.getfield 68, 3) := dk_180 0 68 (dk_at dksX3_guide_4 6 rfl rfl)
theorem dX3_guide_104 : decode cX3_guide 104 = .ok (.aload_n 0, 1) := dk_42 (dk_at dksX3_guide_4 9 rfl rfl)
theorem dX3_guide_105 : decode cX3_guide 105 = .ok (.getfield 287, 3) := dk_180 1 31 (dk_at dksX3_guide_4 10 rfl rfl)
theorem dX3_guide_108 : decode cX3_guide 108 = .ok (.iconst 0, 1) := dk_3 (dk_at dksX3_guide_4 13 rfl rfl)
theorem dX3_guide_109 : decode cX3_guide 109 = .ok (.iastore, 1) := dk_79 (dk_at dksX3_guide_4 14 rfl rfl)
theorem dX3_guide_110 : decode cX3_guide 110 = .ok (.aload_n 0, 1) := dk_42 (dk_at dksX3_guide_4 15 rfl rfl)
theorem dX3_guide_111 : decode cX3_guide 111 = .ok (.getfield 71, 3) := dk_180 0 71 (dk_at dksX3_guide_4 16 rfl rfl)
theorem dX3_guide_114 : decode cX3_guide 114 = .ok (.aload_n 0, 1) := dk_42 (dk_at dksX3_guide_4 19 rfl rfl)
theorem dX3_guide_115 : decode cX3_guide 115 = .ok (.getfield 287, 3) := dk_180 1 31 (dk_at dksX3_guide_4 20 rfl rfl)
theorem dX3_guide_118 : decode cX3_guide 118 = .ok (.aload_n 0, 1) := dk_42 (dk_at dksX3_guide_4 23 rfl rfl)
theorem dX3_guide_119 : decode cX3_guide 119 = .ok (.getfield 287, 3) := dk_180 1 31 (dk_at dksX3_guide_5 0 rfl rfl)
theorem dX3_guide_122 : decode cX3_guide 122 = .ok (.iastore, 1) := dk_79 (dk_at dksX3_guide_5 3 rfl rfl)
theorem dX3_guide_123 : decode cX3_guide 123 = .ok (.aload_n 0, 1) := dk_42 (dk_at dksX3_guide_5 4 rfl rfl)
theorem dX3_guide_124 : decode cX3_guide 124 = .ok (.dup, 1) := dk_89 (dk_at dksX3_guide_5 5 rfl rfl)
theorem dX3_guide_125 : decode cX3_guide 125 = .ok (.getfield 287, 3) := dk_180 1 31 (dk_at dksX3_guide_5 6 rfl rfl)
theorem dX3_guide_128 : decode cX3_guide 128 = .ok (.iconst 1, 1) := dk_4 (dk_at dksX3_guide_5 9 rfl rfl)
theorem dX3_guide_129 : decode cX3_guide 129 = .ok (.iadd, 1) := dk_96 (dk_at dksX3_guide_5 10 rfl rfl)
theorem dX3_guide_130 : decode cX3_guide 130 = .ok (.putfield 287, 3) := dk_181 1 31 (dk_at dksX3_guide_5 11 rfl rfl)
theorem dX3_guide_133 : decode cX3_guide 133 = .ok (.aload_n 0, 1) := dk_42 (dk_at dksX3_guide_5 14 rfl rfl)
theorem dX3_guide_134 : decode cX3_guide 134 = .ok (.getfield 287, 3) := dk_180 1 31 (dk_at dksX3_guide_5 15 rfl rfl)
theorem dX3_guide_137 : decode cX3_guide 137 = .ok (.iconst 1, 1) := dk_4 (dk_at dksX3_guide_5 18 rfl rfl)
theorem dX3_guide_138 : decode cX3_guide 138 = .ok (.isub, 1) := dk_100 (dk_at dksX3_guide_5 19 rfl rfl)
theorem dX3_guide_139 : decode cX3_guide 139 = .ok (.ireturn, 1) := dk_172 (dk_at dksX3_guide_5 20 rfl rfl)
abbrev cX3_papers : ByteArray := prog_26_method_35_code
def yX3_papers : MethodName := ⟨RX3, "papers", "(II)I"⟩
def dkwX3_papers_1 : List UInt8 := [180, 0, 59, 27, 46, 62, 42, 180, 0, 59, 27, 28, 79, 29, 172]
abbrev dktX3_papers_1 : List UInt8 := dkwX3_papers_1 ++ []
def dkwX3_papers_0 : List UInt8 := [42, 27, 182, 1, 36, 153, 0, 15, 28, 133, 9, 20, 1, 34, 184, 0, 214, 154, 0, 5, 2, 172, 42]
abbrev dktX3_papers_0 : List UInt8 := dkwX3_papers_0 ++ dktX3_papers_1
theorem dksX3_papers_0 : cX3_papers.data.toList.drop 0 = dktX3_papers_0 := by decide +kernel
theorem dksX3_papers_1 : cX3_papers.data.toList.drop 23 = dktX3_papers_1 := dk_seg dksX3_papers_0 23 rfl rfl
theorem dX3_papers_0 : decode cX3_papers 0 = .ok (.aload_n 0, 1) := dk_42 (dk_at dksX3_papers_0 0 rfl rfl)
theorem dX3_papers_1 : decode cX3_papers 1 = .ok (.iload_n 1, 1) := dk_27 (dk_at dksX3_papers_0 1 rfl rfl)
theorem dX3_papers_2 : decode cX3_papers 2 = .ok (.invokevirtual 292, 3) := dk_182 1 36 (dk_at dksX3_papers_0 2 rfl rfl)
theorem dX3_papers_5 : decode cX3_papers 5 = .ok (.ifCond .eq 15, 3) := dk_153 0 15 (dk_at dksX3_papers_0 5 rfl rfl)
theorem dX3_papers_8 : decode cX3_papers 8 = .ok (.iload_n 2, 1) := dk_28 (dk_at dksX3_papers_0 8 rfl rfl)
theorem dX3_papers_9 : decode cX3_papers 9 = .ok (.i2l, 1) := dk_133 (dk_at dksX3_papers_0 9 rfl rfl)
theorem dX3_papers_10 : decode cX3_papers 10 = .ok (.lconst 0, 1) := dk_9 (dk_at dksX3_papers_0 10 rfl rfl)
theorem dX3_papers_11 : decode cX3_papers 11 = .ok (.ldc2_w 290, 3) := dk_20 1 34 (dk_at dksX3_papers_0 11 rfl rfl)
theorem dX3_papers_14 : decode cX3_papers 14 = .ok (.invokestatic 214, 3) := dk_184 0 214 (dk_at dksX3_papers_0 14 rfl rfl)
theorem dX3_papers_17 : decode cX3_papers 17 = .ok (.ifCond .ne 5, 3) := dk_154 0 5 (dk_at dksX3_papers_0 17 rfl rfl)
theorem dX3_papers_20 : decode cX3_papers 20 = .ok (.iconst (-1), 1) := dk_2 (dk_at dksX3_papers_0 20 rfl rfl)
theorem dX3_papers_21 : decode cX3_papers 21 = .ok (.ireturn, 1) := dk_172 (dk_at dksX3_papers_0 21 rfl rfl)
theorem dX3_papers_22 : decode cX3_papers 22 = .ok (.aload_n 0, 1) := dk_42 (dk_at dksX3_papers_0 22 rfl rfl)
theorem dX3_papers_23 : decode cX3_papers 23 = .ok (.getfield 59, 3) := dk_180 0 59 (dk_at dksX3_papers_1 0 rfl rfl)
theorem dX3_papers_26 : decode cX3_papers 26 = .ok (.iload_n 1, 1) := dk_27 (dk_at dksX3_papers_1 3 rfl rfl)
theorem dX3_papers_27 : decode cX3_papers 27 = .ok (.iaload, 1) := dk_46 (dk_at dksX3_papers_1 4 rfl rfl)
theorem dX3_papers_28 : decode cX3_papers 28 = .ok (.istore_n 3, 1) := dk_62 (dk_at dksX3_papers_1 5 rfl rfl)
theorem dX3_papers_29 : decode cX3_papers 29 = .ok (.aload_n 0, 1) := dk_42 (dk_at dksX3_papers_1 6 rfl rfl)
theorem dX3_papers_30 : decode cX3_papers 30 = .ok (.getfield 59, 3) := dk_180 0 59 (dk_at dksX3_papers_1 7 rfl rfl)
theorem dX3_papers_33 : decode cX3_papers 33 = .ok (.iload_n 1, 1) := dk_27 (dk_at dksX3_papers_1 10 rfl rfl)
theorem dX3_papers_34 : decode cX3_papers 34 = .ok (.iload_n 2, 1) := dk_28 (dk_at dksX3_papers_1 11 rfl rfl)
theorem dX3_papers_35 : decode cX3_papers 35 = .ok (.iastore, 1) := dk_79 (dk_at dksX3_papers_1 12 rfl rfl)
theorem dX3_papers_36 : decode cX3_papers 36 = .ok (.iload_n 3, 1) := dk_29 (dk_at dksX3_papers_1 13 rfl rfl)
theorem dX3_papers_37 : decode cX3_papers 37 = .ok (.ireturn, 1) := dk_172 (dk_at dksX3_papers_1 14 rfl rfl)
abbrev cX3_isGuide : ByteArray := prog_26_method_33_code
def yX3_isGuide : MethodName := ⟨RX3, "isGuide", "(I)Z"⟩
def dkwX3_isGuide_0 : List UInt8 := [27, 133, 9, 42, 180, 1, 31, 4, 100, 133, 184, 0, 214, 172]
abbrev dktX3_isGuide_0 : List UInt8 := dkwX3_isGuide_0 ++ []
theorem dksX3_isGuide_0 : cX3_isGuide.data.toList.drop 0 = dktX3_isGuide_0 := by decide +kernel
theorem dX3_isGuide_0 : decode cX3_isGuide 0 = .ok (.iload_n 1, 1) := dk_27 (dk_at dksX3_isGuide_0 0 rfl rfl)
theorem dX3_isGuide_1 : decode cX3_isGuide 1 = .ok (.i2l, 1) := dk_133 (dk_at dksX3_isGuide_0 1 rfl rfl)
theorem dX3_isGuide_2 : decode cX3_isGuide 2 = .ok (.lconst 0, 1) := dk_9 (dk_at dksX3_isGuide_0 2 rfl rfl)
theorem dX3_isGuide_3 : decode cX3_isGuide 3 = .ok (.aload_n 0, 1) := dk_42 (dk_at dksX3_isGuide_0 3 rfl rfl)
theorem dX3_isGuide_4 : decode cX3_isGuide 4 = .ok (.getfield 287, 3) := dk_180 1 31 (dk_at dksX3_isGuide_0 4 rfl rfl)
theorem dX3_isGuide_7 : decode cX3_isGuide 7 = .ok (.iconst 1, 1) := dk_4 (dk_at dksX3_isGuide_0 7 rfl rfl)
theorem dX3_isGuide_8 : decode cX3_isGuide 8 = .ok (.isub, 1) := dk_100 (dk_at dksX3_isGuide_0 8 rfl rfl)
theorem dX3_isGuide_9 : decode cX3_isGuide 9 = .ok (.i2l, 1) := dk_133 (dk_at dksX3_isGuide_0 9 rfl rfl)
theorem dX3_isGuide_10 : decode cX3_isGuide 10 = .ok (.invokestatic 214, 3) := dk_184 0 214 (dk_at dksX3_isGuide_0 10 rfl rfl)
theorem dX3_isGuide_13 : decode cX3_isGuide 13 = .ok (.ireturn, 1) := dk_172 (dk_at dksX3_isGuide_0 13 rfl rfl)
abbrev cX3_told : ByteArray := prog_26_method_37_code
def yX3_told : MethodName := ⟨RX3, "told", "(II)I"⟩
def dkwX3_told_4 : List UInt8 := [46, 172, 42, 180, 0, 68, 27, 46, 172]
abbrev dktX3_told_4 : List UInt8 := dkwX3_told_4 ++ []
def dkwX3_told_3 : List UInt8 := [182, 1, 41, 172, 42, 180, 0, 62, 27, 51, 153, 0, 7, 4, 167, 0, 4, 3, 172, 42, 180, 0, 65, 27]
abbrev dktX3_told_3 : List UInt8 := dkwX3_told_3 ++ dktX3_told_4
def dkwX3_told_2 : List UInt8 := [42, 180, 0, 53, 27, 46, 172, 42, 180, 0, 56, 27, 46, 172, 42, 180, 0, 59, 27, 46, 172, 42, 27]
abbrev dktX3_told_2 : List UInt8 := dkwX3_told_2 ++ dktX3_told_3
def dkwX3_told_1 : List UInt8 := [170, 0, 0, 0, 86, 0, 0, 0, 0, 0, 0, 0, 5, 0, 0, 0, 37, 0, 0, 0, 44, 0, 0, 0, 51, 0, 0, 0, 58, 0, 0, 0, 64, 0, 0, 0, 79]
abbrev dktX3_told_1 : List UInt8 := dkwX3_told_1 ++ dktX3_told_2
def dkwX3_told_0 : List UInt8 := [42, 27, 182, 1, 36, 153, 0, 15, 28, 133, 9, 20, 1, 39, 184, 0, 214, 154, 0, 5, 2, 172, 28]
abbrev dktX3_told_0 : List UInt8 := dkwX3_told_0 ++ dktX3_told_1
theorem dksX3_told_0 : cX3_told.data.toList.drop 0 = dktX3_told_0 := by decide +kernel
theorem dksX3_told_1 : cX3_told.data.toList.drop 23 = dktX3_told_1 := dk_seg dksX3_told_0 23 rfl rfl
theorem dksX3_told_2 : cX3_told.data.toList.drop 60 = dktX3_told_2 := dk_seg dksX3_told_1 37 rfl rfl
theorem dksX3_told_3 : cX3_told.data.toList.drop 83 = dktX3_told_3 := dk_seg dksX3_told_2 23 rfl rfl
theorem dksX3_told_4 : cX3_told.data.toList.drop 107 = dktX3_told_4 := dk_seg dksX3_told_3 24 rfl rfl
theorem dX3_told_0 : decode cX3_told 0 = .ok (.aload_n 0, 1) := dk_42 (dk_at dksX3_told_0 0 rfl rfl)
theorem dX3_told_1 : decode cX3_told 1 = .ok (.iload_n 1, 1) := dk_27 (dk_at dksX3_told_0 1 rfl rfl)
theorem dX3_told_2 : decode cX3_told 2 = .ok (.invokevirtual 292, 3) := dk_182 1 36 (dk_at dksX3_told_0 2 rfl rfl)
theorem dX3_told_5 : decode cX3_told 5 = .ok (.ifCond .eq 15, 3) := dk_153 0 15 (dk_at dksX3_told_0 5 rfl rfl)
theorem dX3_told_8 : decode cX3_told 8 = .ok (.iload_n 2, 1) := dk_28 (dk_at dksX3_told_0 8 rfl rfl)
theorem dX3_told_9 : decode cX3_told 9 = .ok (.i2l, 1) := dk_133 (dk_at dksX3_told_0 9 rfl rfl)
theorem dX3_told_10 : decode cX3_told 10 = .ok (.lconst 0, 1) := dk_9 (dk_at dksX3_told_0 10 rfl rfl)
theorem dX3_told_11 : decode cX3_told 11 = .ok (.ldc2_w 295, 3) := dk_20 1 39 (dk_at dksX3_told_0 11 rfl rfl)
theorem dX3_told_14 : decode cX3_told 14 = .ok (.invokestatic 214, 3) := dk_184 0 214 (dk_at dksX3_told_0 14 rfl rfl)
theorem dX3_told_17 : decode cX3_told 17 = .ok (.ifCond .ne 5, 3) := dk_154 0 5 (dk_at dksX3_told_0 17 rfl rfl)
theorem dX3_told_20 : decode cX3_told 20 = .ok (.iconst (-1), 1) := dk_2 (dk_at dksX3_told_0 20 rfl rfl)
theorem dX3_told_21 : decode cX3_told 21 = .ok (.ireturn, 1) := dk_172 (dk_at dksX3_told_0 21 rfl rfl)
theorem dX3_told_22 : decode cX3_told 22 = .ok (.iload_n 2, 1) := dk_28 (dk_at dksX3_told_0 22 rfl rfl)
theorem dX3_told_23 : decode cX3_told 23 = .ok (.tableswitch 86 0 5 #[37, 44, 51, 58, 64, 79], 37) := by decide +kernel
theorem dX3_told_60 : decode cX3_told 60 = .ok (.aload_n 0, 1) := dk_42 (dk_at dksX3_told_2 0 rfl rfl)
theorem dX3_told_61 : decode cX3_told 61 = .ok (.getfield 53, 3) := dk_180 0 53 (dk_at dksX3_told_2 1 rfl rfl)
theorem dX3_told_64 : decode cX3_told 64 = .ok (.iload_n 1, 1) := dk_27 (dk_at dksX3_told_2 4 rfl rfl)
theorem dX3_told_65 : decode cX3_told 65 = .ok (.iaload, 1) := dk_46 (dk_at dksX3_told_2 5 rfl rfl)
theorem dX3_told_66 : decode cX3_told 66 = .ok (.ireturn, 1) := dk_172 (dk_at dksX3_told_2 6 rfl rfl)
theorem dX3_told_67 : decode cX3_told 67 = .ok (.aload_n 0, 1) := dk_42 (dk_at dksX3_told_2 7 rfl rfl)
theorem dX3_told_68 : decode cX3_told 68 = .ok (.getfield 56, 3) := dk_180 0 56 (dk_at dksX3_told_2 8 rfl rfl)
theorem dX3_told_71 : decode cX3_told 71 = .ok (.iload_n 1, 1) := dk_27 (dk_at dksX3_told_2 11 rfl rfl)
theorem dX3_told_72 : decode cX3_told 72 = .ok (.iaload, 1) := dk_46 (dk_at dksX3_told_2 12 rfl rfl)
theorem dX3_told_73 : decode cX3_told 73 = .ok (.ireturn, 1) := dk_172 (dk_at dksX3_told_2 13 rfl rfl)
theorem dX3_told_74 : decode cX3_told 74 = .ok (.aload_n 0, 1) := dk_42 (dk_at dksX3_told_2 14 rfl rfl)
theorem dX3_told_75 : decode cX3_told 75 = .ok (.getfield 59, 3) := dk_180 0 59 (dk_at dksX3_told_2 15 rfl rfl)
theorem dX3_told_78 : decode cX3_told 78 = .ok (.iload_n 1, 1) := dk_27 (dk_at dksX3_told_2 18 rfl rfl)
theorem dX3_told_79 : decode cX3_told 79 = .ok (.iaload, 1) := dk_46 (dk_at dksX3_told_2 19 rfl rfl)
theorem dX3_told_80 : decode cX3_told 80 = .ok (.ireturn, 1) := dk_172 (dk_at dksX3_told_2 20 rfl rfl)
theorem dX3_told_81 : decode cX3_told 81 = .ok (.aload_n 0, 1) := dk_42 (dk_at dksX3_told_2 21 rfl rfl)
theorem dX3_told_82 : decode cX3_told 82 = .ok (.iload_n 1, 1) := dk_27 (dk_at dksX3_told_2 22 rfl rfl)
theorem dX3_told_83 : decode cX3_told 83 = .ok (.invokevirtual 297, 3) := dk_182 1 41 (dk_at dksX3_told_3 0 rfl rfl)
theorem dX3_told_86 : decode cX3_told 86 = .ok (.ireturn, 1) := dk_172 (dk_at dksX3_told_3 3 rfl rfl)
theorem dX3_told_87 : decode cX3_told 87 = .ok (.aload_n 0, 1) := dk_42 (dk_at dksX3_told_3 4 rfl rfl)
theorem dX3_told_88 : decode cX3_told 88 = .ok (.getfield 62, 3) := dk_180 0 62 (dk_at dksX3_told_3 5 rfl rfl)
theorem dX3_told_91 : decode cX3_told 91 = .ok (.iload_n 1, 1) := dk_27 (dk_at dksX3_told_3 8 rfl rfl)
theorem dX3_told_92 : decode cX3_told 92 = .ok (.baload, 1) := dk_51 (dk_at dksX3_told_3 9 rfl rfl)
theorem dX3_told_93 : decode cX3_told 93 = .ok (.ifCond .eq 7, 3) := dk_153 0 7 (dk_at dksX3_told_3 10 rfl rfl)
theorem dX3_told_96 : decode cX3_told 96 = .ok (.iconst 1, 1) := dk_4 (dk_at dksX3_told_3 13 rfl rfl)
theorem dX3_told_97 : decode cX3_told 97 = .ok (.goto 4, 3) := dk_167 0 4 (dk_at dksX3_told_3 14 rfl rfl)
theorem dX3_told_100 : decode cX3_told 100 = .ok (.iconst 0, 1) := dk_3 (dk_at dksX3_told_3 17 rfl rfl)
theorem dX3_told_101 : decode cX3_told 101 = .ok (.ireturn, 1) := dk_172 (dk_at dksX3_told_3 18 rfl rfl)
theorem dX3_told_102 : decode cX3_told 102 = .ok (.aload_n 0, 1) := dk_42 (dk_at dksX3_told_3 19 rfl rfl)
theorem dX3_told_103 : decode cX3_told 103 = .ok (.getfield 65, 3) := dk_180 0 65 (dk_at dksX3_told_3 20 rfl rfl)
theorem dX3_told_106 : decode cX3_told 106 = .ok (.iload_n 1, 1) := dk_27 (dk_at dksX3_told_3 23 rfl rfl)
theorem dX3_told_107 : decode cX3_told 107 = .ok (.iaload, 1) := dk_46 (dk_at dksX3_told_4 0 rfl rfl)
theorem dX3_told_108 : decode cX3_told 108 = .ok (.ireturn, 1) := dk_172 (dk_at dksX3_told_4 1 rfl rfl)
theorem dX3_told_109 : decode cX3_told 109 = .ok (.aload_n 0, 1) := dk_42 (dk_at dksX3_told_4 2 rfl rfl)
theorem dX3_told_110 : decode cX3_told 110 = .ok (.getfield 68, 3) := dk_180 0 68 (dk_at dksX3_told_4 3 rfl rfl)
theorem dX3_told_113 : decode cX3_told 113 = .ok (.iload_n 1, 1) := dk_27 (dk_at dksX3_told_4 6 rfl rfl)
theorem dX3_told_114 : decode cX3_told 114 = .ok (.iaload, 1) := dk_46 (dk_at dksX3_told_4 7 rfl rfl)
theorem dX3_told_115 : decode cX3_told 115 = .ok (.ireturn, 1) := dk_172 (dk_at dksX3_told_4 8 rfl rfl)
abbrev cX3_placeInList : ByteArray := prog_26_method_36_code
def yX3_placeInList : MethodName := ⟨RX3, "placeInList", "(I)I"⟩
def dkwX3_placeInList_0 : List UInt8 := [3, 61, 42, 180, 0, 71, 28, 46, 27, 159, 0, 9, 132, 2, 1, 167, 255, 243, 28, 172]
abbrev dktX3_placeInList_0 : List UInt8 := dkwX3_placeInList_0 ++ []
theorem dksX3_placeInList_0 : cX3_placeInList.data.toList.drop 0 = dktX3_placeInList_0 := by decide +kernel
theorem dX3_placeInList_0 : decode cX3_placeInList 0 = .ok (.iconst 0, 1) := dk_3 (dk_at dksX3_placeInList_0 0 rfl rfl)
theorem dX3_placeInList_1 : decode cX3_placeInList 1 = .ok (.istore_n 2, 1) := dk_61 (dk_at dksX3_placeInList_0 1 rfl rfl)
theorem dX3_placeInList_2 : decode cX3_placeInList 2 = .ok (.aload_n 0, 1) := dk_42 (dk_at dksX3_placeInList_0 2 rfl rfl)
theorem dX3_placeInList_3 : decode cX3_placeInList 3 = .ok (.getfield 71, 3) := dk_180 0 71 (dk_at dksX3_placeInList_0 3 rfl rfl)
theorem dX3_placeInList_6 : decode cX3_placeInList 6 = .ok (.iload_n 2, 1) := dk_28 (dk_at dksX3_placeInList_0 6 rfl rfl)
theorem dX3_placeInList_7 : decode cX3_placeInList 7 = .ok (.iaload, 1) := dk_46 (dk_at dksX3_placeInList_0 7 rfl rfl)
theorem dX3_placeInList_8 : decode cX3_placeInList 8 = .ok (.iload_n 1, 1) := dk_27 (dk_at dksX3_placeInList_0 8 rfl rfl)
theorem dX3_placeInList_9 : decode cX3_placeInList 9 = .ok (.if_icmp .eq 9, 3) := dk_159 0 9 (dk_at dksX3_placeInList_0 9 rfl rfl)
theorem dX3_placeInList_12 : decode cX3_placeInList 12 = .ok (.iinc 2 1, 3) := dk_132 2 1 (dk_at dksX3_placeInList_0 12 rfl rfl)
theorem dX3_placeInList_15 : decode cX3_placeInList 15 = .ok (.goto (-13), 3) := dk_167 255 243 (dk_at dksX3_placeInList_0 15 rfl rfl)
theorem dX3_placeInList_18 : decode cX3_placeInList 18 = .ok (.iload_n 2, 1) := dk_28 (dk_at dksX3_placeInList_0 18 rfl rfl)
theorem dX3_placeInList_19 : decode cX3_placeInList 19 = .ok (.ireturn, 1) := dk_172 (dk_at dksX3_placeInList_0 19 rfl rfl)
abbrev cX3_list : ByteArray := prog_26_method_38_code
def yX3_list : MethodName := ⟨RX3, "list", "(I)I"⟩
def dkwX3_list_0 : List UInt8 := [42, 27, 182, 1, 36, 153, 0, 12, 42, 180, 0, 71, 27, 46, 167, 0, 4, 2, 172]
abbrev dktX3_list_0 : List UInt8 := dkwX3_list_0 ++ []
theorem dksX3_list_0 : cX3_list.data.toList.drop 0 = dktX3_list_0 := by decide +kernel
theorem dX3_list_0 : decode cX3_list 0 = .ok (.aload_n 0, 1) := dk_42 (dk_at dksX3_list_0 0 rfl rfl)
theorem dX3_list_1 : decode cX3_list 1 = .ok (.iload_n 1, 1) := dk_27 (dk_at dksX3_list_0 1 rfl rfl)
theorem dX3_list_2 : decode cX3_list 2 = .ok (.invokevirtual 292, 3) := dk_182 1 36 (dk_at dksX3_list_0 2 rfl rfl)
theorem dX3_list_5 : decode cX3_list 5 = .ok (.ifCond .eq 12, 3) := dk_153 0 12 (dk_at dksX3_list_0 5 rfl rfl)
theorem dX3_list_8 : decode cX3_list 8 = .ok (.aload_n 0, 1) := dk_42 (dk_at dksX3_list_0 8 rfl rfl)
theorem dX3_list_9 : decode cX3_list 9 = .ok (.getfield 71, 3) := dk_180 0 71 (dk_at dksX3_list_0 9 rfl rfl)
theorem dX3_list_12 : decode cX3_list 12 = .ok (.iload_n 1, 1) := dk_27 (dk_at dksX3_list_0 12 rfl rfl)
theorem dX3_list_13 : decode cX3_list 13 = .ok (.iaload, 1) := dk_46 (dk_at dksX3_list_0 13 rfl rfl)
theorem dX3_list_14 : decode cX3_list 14 = .ok (.goto 4, 3) := dk_167 0 4 (dk_at dksX3_list_0 14 rfl rfl)
theorem dX3_list_17 : decode cX3_list 17 = .ok (.iconst (-1), 1) := dk_2 (dk_at dksX3_list_0 17 rfl rfl)
theorem dX3_list_18 : decode cX3_list 18 = .ok (.ireturn, 1) := dk_172 (dk_at dksX3_list_0 18 rfl rfl)
abbrev cX3_day : ByteArray := prog_26_method_39_code
def yX3_day : MethodName := ⟨RX3, "day", "(I)I"⟩
def dkwX3_day_2 : List UInt8 := [167, 255, 240, 28, 172]
abbrev dktX3_day_2 : List UInt8 := dkwX3_day_2 ++ []
def dkwX3_day_1 : List UInt8 := [27, 181, 1, 44, 3, 62, 29, 16, 8, 162, 0, 16, 42, 180, 0, 62, 29, 3, 84, 132, 3, 1]
abbrev dktX3_day_1 : List UInt8 := dkwX3_day_1 ++ dktX3_day_2
def dkwX3_day_0 : List UInt8 := [27, 133, 42, 180, 1, 44, 133, 20, 1, 34, 184, 0, 214, 154, 0, 5, 2, 172, 42, 180, 1, 44, 61, 42]
abbrev dktX3_day_0 : List UInt8 := dkwX3_day_0 ++ dktX3_day_1
theorem dksX3_day_0 : cX3_day.data.toList.drop 0 = dktX3_day_0 := by decide +kernel
theorem dksX3_day_1 : cX3_day.data.toList.drop 24 = dktX3_day_1 := dk_seg dksX3_day_0 24 rfl rfl
theorem dksX3_day_2 : cX3_day.data.toList.drop 46 = dktX3_day_2 := dk_seg dksX3_day_1 22 rfl rfl
theorem dX3_day_0 : decode cX3_day 0 = .ok (.iload_n 1, 1) := dk_27 (dk_at dksX3_day_0 0 rfl rfl)
theorem dX3_day_1 : decode cX3_day 1 = .ok (.i2l, 1) := dk_133 (dk_at dksX3_day_0 1 rfl rfl)
theorem dX3_day_2 : decode cX3_day 2 = .ok (.aload_n 0, 1) := dk_42 (dk_at dksX3_day_0 2 rfl rfl)
theorem dX3_day_3 : decode cX3_day 3 = .ok (.getfield 300, 3) := dk_180 1 44 (dk_at dksX3_day_0 3 rfl rfl)
theorem dX3_day_6 : decode cX3_day 6 = .ok (.i2l, 1) := dk_133 (dk_at dksX3_day_0 6 rfl rfl)
theorem dX3_day_7 : decode cX3_day 7 = .ok (.ldc2_w 290, 3) := dk_20 1 34 (dk_at dksX3_day_0 7 rfl rfl)
theorem dX3_day_10 : decode cX3_day 10 = .ok (.invokestatic 214, 3) := dk_184 0 214 (dk_at dksX3_day_0 10 rfl rfl)
theorem dX3_day_13 : decode cX3_day 13 = .ok (.ifCond .ne 5, 3) := dk_154 0 5 (dk_at dksX3_day_0 13 rfl rfl)
theorem dX3_day_16 : decode cX3_day 16 = .ok (.iconst (-1), 1) := dk_2 (dk_at dksX3_day_0 16 rfl rfl)
theorem dX3_day_17 : decode cX3_day 17 = .ok (.ireturn, 1) := dk_172 (dk_at dksX3_day_0 17 rfl rfl)
theorem dX3_day_18 : decode cX3_day 18 = .ok (.aload_n 0, 1) := dk_42 (dk_at dksX3_day_0 18 rfl rfl)
theorem dX3_day_19 : decode cX3_day 19 = .ok (.getfield 300, 3) := dk_180 1 44 (dk_at dksX3_day_0 19 rfl rfl)
theorem dX3_day_22 : decode cX3_day 22 = .ok (.istore_n 2, 1) := dk_61 (dk_at dksX3_day_0 22 rfl rfl)
theorem dX3_day_23 : decode cX3_day 23 = .ok (.aload_n 0, 1) := dk_42 (dk_at dksX3_day_0 23 rfl rfl)
theorem dX3_day_24 : decode cX3_day 24 = .ok (.iload_n 1, 1) := dk_27 (dk_at dksX3_day_1 0 rfl rfl)
theorem dX3_day_25 : decode cX3_day 25 = .ok (.putfield 300, 3) := dk_181 1 44 (dk_at dksX3_day_1 1 rfl rfl)
theorem dX3_day_28 : decode cX3_day 28 = .ok (.iconst 0, 1) := dk_3 (dk_at dksX3_day_1 4 rfl rfl)
theorem dX3_day_29 : decode cX3_day 29 = .ok (.istore_n 3, 1) := dk_62 (dk_at dksX3_day_1 5 rfl rfl)
theorem dX3_day_30 : decode cX3_day 30 = .ok (.iload_n 3, 1) := dk_29 (dk_at dksX3_day_1 6 rfl rfl)
theorem dX3_day_31 : decode cX3_day 31 = .ok (.bipush 8, 2) := dk_16 8 (dk_at dksX3_day_1 7 rfl rfl)
theorem dX3_day_33 : decode cX3_day 33 = .ok (.if_icmp .ge 16, 3) := dk_162 0 16 (dk_at dksX3_day_1 9 rfl rfl)
theorem dX3_day_36 : decode cX3_day 36 = .ok (.aload_n 0, 1) := dk_42 (dk_at dksX3_day_1 12 rfl rfl)
theorem dX3_day_37 : decode cX3_day 37 = .ok (.getfield 62, 3) := dk_180 0 62 (dk_at dksX3_day_1 13 rfl rfl)
theorem dX3_day_40 : decode cX3_day 40 = .ok (.iload_n 3, 1) := dk_29 (dk_at dksX3_day_1 16 rfl rfl)
theorem dX3_day_41 : decode cX3_day 41 = .ok (.iconst 0, 1) := dk_3 (dk_at dksX3_day_1 17 rfl rfl)
theorem dX3_day_42 : decode cX3_day 42 = .ok (.bastore, 1) := dk_84 (dk_at dksX3_day_1 18 rfl rfl)
theorem dX3_day_43 : decode cX3_day 43 = .ok (.iinc 3 1, 3) := dk_132 3 1 (dk_at dksX3_day_1 19 rfl rfl)
theorem dX3_day_46 : decode cX3_day 46 = .ok (.goto (-16), 3) := dk_167 255 240 (dk_at dksX3_day_2 0 rfl rfl)
theorem dX3_day_49 : decode cX3_day 49 = .ok (.iload_n 2, 1) := dk_28 (dk_at dksX3_day_2 3 rfl rfl)
theorem dX3_day_50 : decode cX3_day 50 = .ok (.ireturn, 1) := dk_172 (dk_at dksX3_day_2 4 rfl rfl)
abbrev cX3_feed : ByteArray := prog_26_method_40_code
def yX3_feed : MethodName := ⟨RX3, "feed", "(J)I"⟩
def dkwX3_feed_2 : List UInt8 := [181, 1, 47, 132, 3, 248, 167, 255, 222, 42, 180, 1, 47, 172]
abbrev dktX3_feed_2 : List UInt8 := dkwX3_feed_2 ++ []
def dkwX3_feed_1 : List UInt8 := [180, 0, 74, 42, 180, 1, 47, 31, 29, 123, 20, 1, 50, 127, 136, 79, 42, 89, 180, 1, 47, 4, 96]
abbrev dktX3_feed_1 : List UInt8 := dkwX3_feed_1 ++ dktX3_feed_2
def dkwX3_feed_0 : List UInt8 := [42, 180, 1, 47, 16, 8, 96, 17, 0, 240, 164, 0, 6, 16, 253, 172, 16, 56, 62, 29, 155, 0, 36, 42]
abbrev dktX3_feed_0 : List UInt8 := dkwX3_feed_0 ++ dktX3_feed_1
theorem dksX3_feed_0 : cX3_feed.data.toList.drop 0 = dktX3_feed_0 := by decide +kernel
theorem dksX3_feed_1 : cX3_feed.data.toList.drop 24 = dktX3_feed_1 := dk_seg dksX3_feed_0 24 rfl rfl
theorem dksX3_feed_2 : cX3_feed.data.toList.drop 47 = dktX3_feed_2 := dk_seg dksX3_feed_1 23 rfl rfl
theorem dX3_feed_0 : decode cX3_feed 0 = .ok (.aload_n 0, 1) := dk_42 (dk_at dksX3_feed_0 0 rfl rfl)
theorem dX3_feed_1 : decode cX3_feed 1 = .ok (.getfield 303, 3) := dk_180 1 47 (dk_at dksX3_feed_0 1 rfl rfl)
theorem dX3_feed_4 : decode cX3_feed 4 = .ok (.bipush 8, 2) := dk_16 8 (dk_at dksX3_feed_0 4 rfl rfl)
theorem dX3_feed_6 : decode cX3_feed 6 = .ok (.iadd, 1) := dk_96 (dk_at dksX3_feed_0 6 rfl rfl)
theorem dX3_feed_7 : decode cX3_feed 7 = .ok (.sipush 240, 3) := dk_17 0 240 (dk_at dksX3_feed_0 7 rfl rfl)
theorem dX3_feed_10 : decode cX3_feed 10 = .ok (.if_icmp .le 6, 3) := dk_164 0 6 (dk_at dksX3_feed_0 10 rfl rfl)
theorem dX3_feed_13 : decode cX3_feed 13 = .ok (.bipush (-3), 2) := dk_16 253 (dk_at dksX3_feed_0 13 rfl rfl)
theorem dX3_feed_15 : decode cX3_feed 15 = .ok (.ireturn, 1) := dk_172 (dk_at dksX3_feed_0 15 rfl rfl)
theorem dX3_feed_16 : decode cX3_feed 16 = .ok (.bipush 56, 2) := dk_16 56 (dk_at dksX3_feed_0 16 rfl rfl)
theorem dX3_feed_18 : decode cX3_feed 18 = .ok (.istore_n 3, 1) := dk_62 (dk_at dksX3_feed_0 18 rfl rfl)
theorem dX3_feed_19 : decode cX3_feed 19 = .ok (.iload_n 3, 1) := dk_29 (dk_at dksX3_feed_0 19 rfl rfl)
theorem dX3_feed_20 : decode cX3_feed 20 = .ok (.ifCond .lt 36, 3) := dk_155 0 36 (dk_at dksX3_feed_0 20 rfl rfl)
theorem dX3_feed_23 : decode cX3_feed 23 = .ok (.aload_n 0, 1) := dk_42 (dk_at dksX3_feed_0 23 rfl rfl)
theorem dX3_feed_24 : decode cX3_feed 24 = .ok (.getfield 74, 3) := dk_180 0 74 (dk_at dksX3_feed_1 0 rfl rfl)
theorem dX3_feed_27 : decode cX3_feed 27 = .ok (.aload_n 0, 1) := dk_42 (dk_at dksX3_feed_1 3 rfl rfl)
theorem dX3_feed_28 : decode cX3_feed 28 = .ok (.getfield 303, 3) := dk_180 1 47 (dk_at dksX3_feed_1 4 rfl rfl)
theorem dX3_feed_31 : decode cX3_feed 31 = .ok (.lload_n 1, 1) := dk_31 (dk_at dksX3_feed_1 7 rfl rfl)
theorem dX3_feed_32 : decode cX3_feed 32 = .ok (.iload_n 3, 1) := dk_29 (dk_at dksX3_feed_1 8 rfl rfl)
theorem dX3_feed_33 : decode cX3_feed 33 = .ok (.lshr, 1) := dk_123 (dk_at dksX3_feed_1 9 rfl rfl)
theorem dX3_feed_34 : decode cX3_feed 34 = .ok (.ldc2_w 306, 3) := dk_20 1 50 (dk_at dksX3_feed_1 10 rfl rfl)
theorem dX3_feed_37 : decode cX3_feed 37 = .ok (.land, 1) := dk_127 (dk_at dksX3_feed_1 13 rfl rfl)
theorem dX3_feed_38 : decode cX3_feed 38 = .ok (.l2i, 1) := dk_136 (dk_at dksX3_feed_1 14 rfl rfl)
theorem dX3_feed_39 : decode cX3_feed 39 = .ok (.iastore, 1) := dk_79 (dk_at dksX3_feed_1 15 rfl rfl)
theorem dX3_feed_40 : decode cX3_feed 40 = .ok (.aload_n 0, 1) := dk_42 (dk_at dksX3_feed_1 16 rfl rfl)
theorem dX3_feed_41 : decode cX3_feed 41 = .ok (.dup, 1) := dk_89 (dk_at dksX3_feed_1 17 rfl rfl)
theorem dX3_feed_42 : decode cX3_feed 42 = .ok (.getfield 303, 3) := dk_180 1 47 (dk_at dksX3_feed_1 18 rfl rfl)
theorem dX3_feed_45 : decode cX3_feed 45 = .ok (.iconst 1, 1) := dk_4 (dk_at dksX3_feed_1 21 rfl rfl)
theorem dX3_feed_46 : decode cX3_feed 46 = .ok (.iadd, 1) := dk_96 (dk_at dksX3_feed_1 22 rfl rfl)
theorem dX3_feed_47 : decode cX3_feed 47 = .ok (.putfield 303, 3) := dk_181 1 47 (dk_at dksX3_feed_2 0 rfl rfl)
theorem dX3_feed_50 : decode cX3_feed 50 = .ok (.iinc 3 (-8), 3) := dk_132 3 248 (dk_at dksX3_feed_2 3 rfl rfl)
theorem dX3_feed_53 : decode cX3_feed 53 = .ok (.goto (-34), 3) := dk_167 255 222 (dk_at dksX3_feed_2 6 rfl rfl)
theorem dX3_feed_56 : decode cX3_feed 56 = .ok (.aload_n 0, 1) := dk_42 (dk_at dksX3_feed_2 9 rfl rfl)
theorem dX3_feed_57 : decode cX3_feed 57 = .ok (.getfield 303, 3) := dk_180 1 47 (dk_at dksX3_feed_2 10 rfl rfl)
theorem dX3_feed_60 : decode cX3_feed 60 = .ok (.ireturn, 1) := dk_172 (dk_at dksX3_feed_2 13 rfl rfl)
abbrev cX3_end : ByteArray := prog_26_method_41_code
def yX3_end : MethodName := ⟨RX3, "end", "(I)I"⟩
def dkwX3_end_1 : List UInt8 := [181, 1, 47, 28, 172]
abbrev dktX3_end_1 : List UInt8 := dkwX3_end_1 ++ []
def dkwX3_end_0 : List UInt8 := [27, 133, 9, 42, 180, 1, 47, 133, 184, 0, 214, 154, 0, 5, 2, 172, 42, 180, 1, 47, 61, 42, 27]
abbrev dktX3_end_0 : List UInt8 := dkwX3_end_0 ++ dktX3_end_1
theorem dksX3_end_0 : cX3_end.data.toList.drop 0 = dktX3_end_0 := by decide +kernel
theorem dksX3_end_1 : cX3_end.data.toList.drop 23 = dktX3_end_1 := dk_seg dksX3_end_0 23 rfl rfl
theorem dX3_end_0 : decode cX3_end 0 = .ok (.iload_n 1, 1) := dk_27 (dk_at dksX3_end_0 0 rfl rfl)
theorem dX3_end_1 : decode cX3_end 1 = .ok (.i2l, 1) := dk_133 (dk_at dksX3_end_0 1 rfl rfl)
theorem dX3_end_2 : decode cX3_end 2 = .ok (.lconst 0, 1) := dk_9 (dk_at dksX3_end_0 2 rfl rfl)
theorem dX3_end_3 : decode cX3_end 3 = .ok (.aload_n 0, 1) := dk_42 (dk_at dksX3_end_0 3 rfl rfl)
theorem dX3_end_4 : decode cX3_end 4 = .ok (.getfield 303, 3) := dk_180 1 47 (dk_at dksX3_end_0 4 rfl rfl)
theorem dX3_end_7 : decode cX3_end 7 = .ok (.i2l, 1) := dk_133 (dk_at dksX3_end_0 7 rfl rfl)
theorem dX3_end_8 : decode cX3_end 8 = .ok (.invokestatic 214, 3) := dk_184 0 214 (dk_at dksX3_end_0 8 rfl rfl)
theorem dX3_end_11 : decode cX3_end 11 = .ok (.ifCond .ne 5, 3) := dk_154 0 5 (dk_at dksX3_end_0 11 rfl rfl)
theorem dX3_end_14 : decode cX3_end 14 = .ok (.iconst (-1), 1) := dk_2 (dk_at dksX3_end_0 14 rfl rfl)
theorem dX3_end_15 : decode cX3_end 15 = .ok (.ireturn, 1) := dk_172 (dk_at dksX3_end_0 15 rfl rfl)
theorem dX3_end_16 : decode cX3_end 16 = .ok (.aload_n 0, 1) := dk_42 (dk_at dksX3_end_0 16 rfl rfl)
theorem dX3_end_17 : decode cX3_end 17 = .ok (.getfield 303, 3) := dk_180 1 47 (dk_at dksX3_end_0 17 rfl rfl)
theorem dX3_end_20 : decode cX3_end 20 = .ok (.istore_n 2, 1) := dk_61 (dk_at dksX3_end_0 20 rfl rfl)
theorem dX3_end_21 : decode cX3_end 21 = .ok (.aload_n 0, 1) := dk_42 (dk_at dksX3_end_0 21 rfl rfl)
theorem dX3_end_22 : decode cX3_end 22 = .ok (.iload_n 1, 1) := dk_27 (dk_at dksX3_end_0 22 rfl rfl)
theorem dX3_end_23 : decode cX3_end 23 = .ok (.putfield 303, 3) := dk_181 1 47 (dk_at dksX3_end_1 0 rfl rfl)
theorem dX3_end_26 : decode cX3_end 26 = .ok (.iload_n 2, 1) := dk_28 (dk_at dksX3_end_1 3 rfl rfl)
theorem dX3_end_27 : decode cX3_end 27 = .ok (.ireturn, 1) := dk_172 (dk_at dksX3_end_1 4 rfl rfl)
abbrev cX3_text : ByteArray := prog_26_method_58_code
def yX3_text : MethodName := ⟨RX3, "text", "()I"⟩
def dkwX3_text_6 : List UInt8 := [132, 1, 1, 167, 255, 233, 42, 180, 1, 140, 172]
abbrev dktX3_text_6 : List UInt8 := dkwX3_text_6 ++ []
def dkwX3_text_5 : List UInt8 := [3, 60, 27, 42, 180, 1, 100, 162, 0, 21, 42, 180, 0, 83, 27, 42, 180, 0, 92, 27, 46, 79]
abbrev dktX3_text_5 : List UInt8 := dkwX3_text_5 ++ dktX3_text_6
def dkwX3_text_4 : List UInt8 := [180, 0, 86, 27, 46, 79, 42, 180, 0, 80, 27, 42, 180, 0, 89, 27, 46, 79, 132, 1, 1, 167, 255, 223]
abbrev dktX3_text_4 : List UInt8 := dkwX3_text_4 ++ dktX3_text_5
def dkwX3_text_3 : List UInt8 := [100, 172, 42, 42, 180, 1, 131, 181, 1, 140, 3, 60, 27, 16, 13, 162, 0, 33, 42, 180, 0, 77, 27, 42]
abbrev dktX3_text_3 : List UInt8 := dkwX3_text_3 ++ dktX3_text_4
def dkwX3_text_2 : List UInt8 := [182, 1, 137, 167, 255, 238, 42, 3, 181, 1, 47, 42, 180, 1, 52, 158, 0, 11, 16, 246, 42, 180, 1, 58]
abbrev dktX3_text_2 : List UInt8 := dkwX3_text_2 ++ dktX3_text_3
def dkwX3_text_1 : List UInt8 := [3, 3, 79, 42, 182, 1, 113, 42, 180, 1, 52, 154, 0, 17, 42, 180, 1, 79, 153, 0, 10, 42]
abbrev dktX3_text_1 : List UInt8 := dkwX3_text_1 ++ dktX3_text_2
def dkwX3_text_0 : List UInt8 := [42, 3, 181, 1, 52, 42, 3, 181, 1, 61, 42, 3, 181, 1, 100, 42, 3, 181, 1, 131, 42, 180, 0, 89]
abbrev dktX3_text_0 : List UInt8 := dkwX3_text_0 ++ dktX3_text_1
theorem dksX3_text_0 : cX3_text.data.toList.drop 0 = dktX3_text_0 := by decide +kernel
theorem dksX3_text_1 : cX3_text.data.toList.drop 24 = dktX3_text_1 := dk_seg dksX3_text_0 24 rfl rfl
theorem dksX3_text_2 : cX3_text.data.toList.drop 46 = dktX3_text_2 := dk_seg dksX3_text_1 22 rfl rfl
theorem dksX3_text_3 : cX3_text.data.toList.drop 70 = dktX3_text_3 := dk_seg dksX3_text_2 24 rfl rfl
theorem dksX3_text_4 : cX3_text.data.toList.drop 94 = dktX3_text_4 := dk_seg dksX3_text_3 24 rfl rfl
theorem dksX3_text_5 : cX3_text.data.toList.drop 118 = dktX3_text_5 := dk_seg dksX3_text_4 24 rfl rfl
theorem dksX3_text_6 : cX3_text.data.toList.drop 140 = dktX3_text_6 := dk_seg dksX3_text_5 22 rfl rfl
theorem dX3_text_0 : decode cX3_text 0 = .ok (.aload_n 0, 1) := dk_42 (dk_at dksX3_text_0 0 rfl rfl)
theorem dX3_text_1 : decode cX3_text 1 = .ok (.iconst 0, 1) := dk_3 (dk_at dksX3_text_0 1 rfl rfl)
theorem dX3_text_2 : decode cX3_text 2 = .ok (.putfield 308, 3) := dk_181 1 52 (dk_at dksX3_text_0 2 rfl rfl)
theorem dX3_text_5 : decode cX3_text 5 = .ok (.aload_n 0, 1) := dk_42 (dk_at dksX3_text_0 5 rfl rfl)
theorem dX3_text_6 : decode cX3_text 6 = .ok (.iconst 0, 1) := dk_3 (dk_at dksX3_text_0 6 rfl rfl)
theorem dX3_text_7 : decode cX3_text 7 = .ok (.putfield 317, 3) := dk_181 1 61 (dk_at dksX3_text_0 7 rfl rfl)
theorem dX3_text_10 : decode cX3_text 10 = .ok (.aload_n 0, 1) := dk_42 (dk_at dksX3_text_0 10 rfl rfl)
theorem dX3_text_11 : decode cX3_text 11 = .ok (.iconst 0, 1) := dk_3 (dk_at dksX3_text_0 11 rfl rfl)
theorem dX3_text_12 : decode cX3_text 12 = .ok (.putfield 356, 3) := dk_181 1 100 (dk_at dksX3_text_0 12 rfl rfl)
theorem dX3_text_15 : decode cX3_text 15 = .ok (.aload_n 0, 1) := dk_42 (dk_at dksX3_text_0 15 rfl rfl)
theorem dX3_text_16 : decode cX3_text 16 = .ok (.iconst 0, 1) := dk_3 (dk_at dksX3_text_0 16 rfl rfl)
theorem dX3_text_17 : decode cX3_text 17 = .ok (.putfield 387, 3) := dk_181 1 131 (dk_at dksX3_text_0 17 rfl rfl)
theorem dX3_text_20 : decode cX3_text 20 = .ok (.aload_n 0, 1) := dk_42 (dk_at dksX3_text_0 20 rfl rfl)
theorem dX3_text_21 : decode cX3_text 21 = .ok (.getfield 89, 3) := dk_180 0 89 (dk_at dksX3_text_0 21 rfl rfl)
theorem dX3_text_24 : decode cX3_text 24 = .ok (.iconst 0, 1) := dk_3 (dk_at dksX3_text_1 0 rfl rfl)
theorem dX3_text_25 : decode cX3_text 25 = .ok (.iconst 0, 1) := dk_3 (dk_at dksX3_text_1 1 rfl rfl)
theorem dX3_text_26 : decode cX3_text 26 = .ok (.iastore, 1) := dk_79 (dk_at dksX3_text_1 2 rfl rfl)
theorem dX3_text_27 : decode cX3_text 27 = .ok (.aload_n 0, 1) := dk_42 (dk_at dksX3_text_1 3 rfl rfl)
theorem dX3_text_28 : decode cX3_text 28 = .ok (.invokevirtual 369, 3) := dk_182 1 113 (dk_at dksX3_text_1 4 rfl rfl)
theorem dX3_text_31 : decode cX3_text 31 = .ok (.aload_n 0, 1) := dk_42 (dk_at dksX3_text_1 7 rfl rfl)
theorem dX3_text_32 : decode cX3_text 32 = .ok (.getfield 308, 3) := dk_180 1 52 (dk_at dksX3_text_1 8 rfl rfl)
theorem dX3_text_35 : decode cX3_text 35 = .ok (.ifCond .ne 17, 3) := dk_154 0 17 (dk_at dksX3_text_1 11 rfl rfl)
theorem dX3_text_38 : decode cX3_text 38 = .ok (.aload_n 0, 1) := dk_42 (dk_at dksX3_text_1 14 rfl rfl)
theorem dX3_text_39 : decode cX3_text 39 = .ok (.getfield 335, 3) := dk_180 1 79 (dk_at dksX3_text_1 15 rfl rfl)
theorem dX3_text_42 : decode cX3_text 42 = .ok (.ifCond .eq 10, 3) := dk_153 0 10 (dk_at dksX3_text_1 18 rfl rfl)
theorem dX3_text_45 : decode cX3_text 45 = .ok (.aload_n 0, 1) := dk_42 (dk_at dksX3_text_1 21 rfl rfl)
theorem dX3_text_46 : decode cX3_text 46 = .ok (.invokevirtual 393, 3) := dk_182 1 137 (dk_at dksX3_text_2 0 rfl rfl)
theorem dX3_text_49 : decode cX3_text 49 = .ok (.goto (-18), 3) := dk_167 255 238 (dk_at dksX3_text_2 3 rfl rfl)
theorem dX3_text_52 : decode cX3_text 52 = .ok (.aload_n 0, 1) := dk_42 (dk_at dksX3_text_2 6 rfl rfl)
theorem dX3_text_53 : decode cX3_text 53 = .ok (.iconst 0, 1) := dk_3 (dk_at dksX3_text_2 7 rfl rfl)
theorem dX3_text_54 : decode cX3_text 54 = .ok (.putfield 303, 3) := dk_181 1 47 (dk_at dksX3_text_2 8 rfl rfl)
theorem dX3_text_57 : decode cX3_text 57 = .ok (.aload_n 0, 1) := dk_42 (dk_at dksX3_text_2 11 rfl rfl)
theorem dX3_text_58 : decode cX3_text 58 = .ok (.getfield 308, 3) := dk_180 1 52 (dk_at dksX3_text_2 12 rfl rfl)
theorem dX3_text_61 : decode cX3_text 61 = .ok (.ifCond .le 11, 3) := dk_158 0 11 (dk_at dksX3_text_2 15 rfl rfl)
theorem dX3_text_64 : decode cX3_text 64 = .ok (.bipush (-10), 2) := dk_16 246 (dk_at dksX3_text_2 18 rfl rfl)
theorem dX3_text_66 : decode cX3_text 66 = .ok (.aload_n 0, 1) := dk_42 (dk_at dksX3_text_2 20 rfl rfl)
theorem dX3_text_67 : decode cX3_text 67 = .ok (.getfield 314, 3) := dk_180 1 58 (dk_at dksX3_text_2 21 rfl rfl)
theorem dX3_text_70 : decode cX3_text 70 = .ok (.isub, 1) := dk_100 (dk_at dksX3_text_3 0 rfl rfl)
theorem dX3_text_71 : decode cX3_text 71 = .ok (.ireturn, 1) := dk_172 (dk_at dksX3_text_3 1 rfl rfl)
theorem dX3_text_72 : decode cX3_text 72 = .ok (.aload_n 0, 1) := dk_42 (dk_at dksX3_text_3 2 rfl rfl)
theorem dX3_text_73 : decode cX3_text 73 = .ok (.aload_n 0, 1) := dk_42 (dk_at dksX3_text_3 3 rfl rfl)
theorem dX3_text_74 : decode cX3_text 74 = .ok (.getfield 387, 3) := dk_180 1 131 (dk_at dksX3_text_3 4 rfl rfl)
theorem dX3_text_77 : decode cX3_text 77 = .ok (.putfield 396, 3) := dk_181 1 140 (dk_at dksX3_text_3 7 rfl rfl)
theorem dX3_text_80 : decode cX3_text 80 = .ok (.iconst 0, 1) := dk_3 (dk_at dksX3_text_3 10 rfl rfl)
theorem dX3_text_81 : decode cX3_text 81 = .ok (.istore_n 1, 1) := dk_60 (dk_at dksX3_text_3 11 rfl rfl)
theorem dX3_text_82 : decode cX3_text 82 = .ok (.iload_n 1, 1) := dk_27 (dk_at dksX3_text_3 12 rfl rfl)
theorem dX3_text_83 : decode cX3_text 83 = .ok (.bipush 13, 2) := dk_16 13 (dk_at dksX3_text_3 13 rfl rfl)
theorem dX3_text_85 : decode cX3_text 85 = .ok (.if_icmp .ge 33, 3) := dk_162 0 33 (dk_at dksX3_text_3 15 rfl rfl)
theorem dX3_text_88 : decode cX3_text 88 = .ok (.aload_n 0, 1) := dk_42 (dk_at dksX3_text_3 18 rfl rfl)
theorem dX3_text_89 : decode cX3_text 89 = .ok (.getfield 77, 3) := dk_180 0 77 (dk_at dksX3_text_3 19 rfl rfl)
theorem dX3_text_92 : decode cX3_text 92 = .ok (.iload_n 1, 1) := dk_27 (dk_at dksX3_text_3 22 rfl rfl)
theorem dX3_text_93 : decode cX3_text 93 = .ok (.aload_n 0, 1) := dk_42 (dk_at dksX3_text_3 23 rfl rfl)
theorem dX3_text_94 : decode cX3_text 94 = .ok (.getfield 86, 3) := dk_180 0 86 (dk_at dksX3_text_4 0 rfl rfl)
theorem dX3_text_97 : decode cX3_text 97 = .ok (.iload_n 1, 1) := dk_27 (dk_at dksX3_text_4 3 rfl rfl)
theorem dX3_text_98 : decode cX3_text 98 = .ok (.iaload, 1) := dk_46 (dk_at dksX3_text_4 4 rfl rfl)
theorem dX3_text_99 : decode cX3_text 99 = .ok (.iastore, 1) := dk_79 (dk_at dksX3_text_4 5 rfl rfl)
theorem dX3_text_100 : decode cX3_text 100 = .ok (.aload_n 0, 1) := dk_42 (dk_at dksX3_text_4 6 rfl rfl)
theorem dX3_text_101 : decode cX3_text 101 = .ok (.getfield 80, 3) := dk_180 0 80 (dk_at dksX3_text_4 7 rfl rfl)
theorem dX3_text_104 : decode cX3_text 104 = .ok (.iload_n 1, 1) := dk_27 (dk_at dksX3_text_4 10 rfl rfl)
theorem dX3_text_105 : decode cX3_text 105 = .ok (.aload_n 0, 1) := dk_42 (dk_at dksX3_text_4 11 rfl rfl)
theorem dX3_text_106 : decode cX3_text 106 = .ok (.getfield 89, 3) := dk_180 0 89 (dk_at dksX3_text_4 12 rfl rfl)
theorem dX3_text_109 : decode cX3_text 109 = .ok (.iload_n 1, 1) := dk_27 (dk_at dksX3_text_4 15 rfl rfl)
theorem dX3_text_110 : decode cX3_text 110 = .ok (.iaload, 1) := dk_46 (dk_at dksX3_text_4 16 rfl rfl)
theorem dX3_text_111 : decode cX3_text 111 = .ok (.iastore, 1) := dk_79 (dk_at dksX3_text_4 17 rfl rfl)
theorem dX3_text_112 : decode cX3_text 112 = .ok (.iinc 1 1, 3) := dk_132 1 1 (dk_at dksX3_text_4 18 rfl rfl)
theorem dX3_text_115 : decode cX3_text 115 = .ok (.goto (-33), 3) := dk_167 255 223 (dk_at dksX3_text_4 21 rfl rfl)
theorem dX3_text_118 : decode cX3_text 118 = .ok (.iconst 0, 1) := dk_3 (dk_at dksX3_text_5 0 rfl rfl)
theorem dX3_text_119 : decode cX3_text 119 = .ok (.istore_n 1, 1) := dk_60 (dk_at dksX3_text_5 1 rfl rfl)
theorem dX3_text_120 : decode cX3_text 120 = .ok (.iload_n 1, 1) := dk_27 (dk_at dksX3_text_5 2 rfl rfl)
theorem dX3_text_121 : decode cX3_text 121 = .ok (.aload_n 0, 1) := dk_42 (dk_at dksX3_text_5 3 rfl rfl)
theorem dX3_text_122 : decode cX3_text 122 = .ok (.getfield 356, 3) := dk_180 1 100 (dk_at dksX3_text_5 4 rfl rfl)
theorem dX3_text_125 : decode cX3_text 125 = .ok (.if_icmp .ge 21, 3) := dk_162 0 21 (dk_at dksX3_text_5 7 rfl rfl)
theorem dX3_text_128 : decode cX3_text 128 = .ok (.aload_n 0, 1) := dk_42 (dk_at dksX3_text_5 10 rfl rfl)
theorem dX3_text_129 : decode cX3_text 129 = .ok (.getfield 83, 3) := dk_180 0 83 (dk_at dksX3_text_5 11 rfl rfl)
theorem dX3_text_132 : decode cX3_text 132 = .ok (.iload_n 1, 1) := dk_27 (dk_at dksX3_text_5 14 rfl rfl)
theorem dX3_text_133 : decode cX3_text 133 = .ok (.aload_n 0, 1) := dk_42 (dk_at dksX3_text_5 15 rfl rfl)
theorem dX3_text_134 : decode cX3_text 134 = .ok (.getfield 92, 3) := dk_180 0 92 (dk_at dksX3_text_5 16 rfl rfl)
theorem dX3_text_137 : decode cX3_text 137 = .ok (.iload_n 1, 1) := dk_27 (dk_at dksX3_text_5 19 rfl rfl)
theorem dX3_text_138 : decode cX3_text 138 = .ok (.iaload, 1) := dk_46 (dk_at dksX3_text_5 20 rfl rfl)
theorem dX3_text_139 : decode cX3_text 139 = .ok (.iastore, 1) := dk_79 (dk_at dksX3_text_5 21 rfl rfl)
theorem dX3_text_140 : decode cX3_text 140 = .ok (.iinc 1 1, 3) := dk_132 1 1 (dk_at dksX3_text_6 0 rfl rfl)
theorem dX3_text_143 : decode cX3_text 143 = .ok (.goto (-23), 3) := dk_167 255 233 (dk_at dksX3_text_6 3 rfl rfl)
theorem dX3_text_146 : decode cX3_text 146 = .ok (.aload_n 0, 1) := dk_42 (dk_at dksX3_text_6 6 rfl rfl)
theorem dX3_text_147 : decode cX3_text 147 = .ok (.getfield 396, 3) := dk_180 1 140 (dk_at dksX3_text_6 7 rfl rfl)
theorem dX3_text_150 : decode cX3_text 150 = .ok (.ireturn, 1) := dk_172 (dk_at dksX3_text_6 10 rfl rfl)
abbrev cX3_next : ByteArray := prog_26_method_48_code
def yX3_next : MethodName := ⟨RX3, "next", "()V"⟩
def dkwX3_next_15 : List UInt8 := [42, 89, 180, 1, 61, 4, 96, 181, 1, 61, 177]
abbrev dktX3_next_15 : List UInt8 := dkwX3_next_15 ++ []
def dkwX3_next_14 : List UInt8 := [159, 0, 15, 27, 16, 61, 159, 0, 9, 27, 16, 59, 160, 0, 7, 4, 167, 0, 4, 3, 4, 182, 1, 92]
abbrev dktX3_next_14 : List UInt8 := dkwX3_next_14 ++ dktX3_next_15
def dkwX3_next_13 : List UInt8 := [159, 0, 39, 27, 16, 45, 159, 0, 33, 27, 16, 42, 159, 0, 27, 27, 16, 60, 159, 0, 21, 27, 16, 62]
abbrev dktX3_next_13 : List UInt8 := dkwX3_next_13 ++ dktX3_next_14
def dkwX3_next_12 : List UInt8 := [181, 1, 79, 42, 27, 181, 1, 89, 42, 27, 16, 40, 159, 0, 51, 27, 16, 41, 159, 0, 45, 27, 16, 43]
abbrev dktX3_next_12 : List UInt8 := dkwX3_next_12 ++ dktX3_next_13
def dkwX3_next_11 : List UInt8 := [180, 1, 55, 100, 7, 163, 0, 7, 4, 167, 0, 4, 3, 4, 182, 1, 92, 167, 0, 87, 42, 6]
abbrev dktX3_next_11 : List UInt8 := dkwX3_next_11 ++ dktX3_next_12
def dkwX3_next_10 : List UInt8 := [181, 1, 89, 42, 89, 180, 1, 61, 4, 96, 181, 1, 61, 167, 255, 182, 42, 42, 180, 1, 61, 42]
abbrev dktX3_next_10 : List UInt8 := dkwX3_next_10 ++ dktX3_next_11
def dkwX3_next_9 : List UInt8 := [180, 1, 89, 104, 42, 42, 180, 1, 61, 182, 1, 64, 96, 16, 48, 100, 167, 0, 7, 42, 180, 1, 89]
abbrev dktX3_next_9 : List UInt8 := dkwX3_next_9 ++ dktX3_next_10
def dkwX3_next_8 : List UInt8 := [184, 0, 214, 153, 0, 59, 42, 42, 180, 1, 61, 42, 180, 1, 55, 100, 7, 162, 0, 25, 16, 10, 42]
abbrev dktX3_next_8 : List UInt8 := dkwX3_next_8 ++ dktX3_next_9
def dkwX3_next_7 : List UInt8 := [181, 1, 79, 42, 3, 181, 1, 89, 42, 42, 180, 1, 61, 182, 1, 64, 133, 20, 1, 96, 20, 1, 98]
abbrev dktX3_next_7 : List UInt8 := dkwX3_next_7 ++ dktX3_next_8
def dkwX3_next_6 : List UInt8 := [182, 1, 92, 167, 0, 214, 27, 133, 20, 1, 96, 20, 1, 98, 184, 0, 214, 153, 0, 116, 42, 5]
abbrev dktX3_next_6 : List UInt8 := dkwX3_next_6 ++ dktX3_next_7
def dkwX3_next_5 : List UInt8 := [182, 1, 86, 181, 1, 89, 42, 42, 180, 1, 89, 16, 252, 159, 0, 7, 4, 167, 0, 4, 3, 4]
abbrev dktX3_next_5 : List UInt8 := dkwX3_next_5 ++ dktX3_next_6
def dkwX3_next_4 : List UInt8 := [20, 1, 84, 184, 0, 214, 153, 0, 16, 42, 89, 180, 1, 61, 4, 96, 181, 1, 61, 167, 255, 225, 42, 42]
abbrev dktX3_next_4 : List UInt8 := dkwX3_next_4 ++ dktX3_next_5
def dkwX3_next_3 : List UInt8 := [184, 0, 214, 153, 0, 72, 42, 4, 181, 1, 79, 42, 42, 180, 1, 61, 182, 1, 64, 133, 20, 1, 82]
abbrev dktX3_next_3 : List UInt8 := dkwX3_next_3 ++ dktX3_next_4
def dkwX3_next_2 : List UInt8 := [182, 1, 64, 60, 27, 156, 0, 11, 42, 3, 181, 1, 79, 167, 1, 41, 27, 133, 20, 1, 82, 20, 1, 84]
abbrev dktX3_next_2 : List UInt8 := dkwX3_next_2 ++ dktX3_next_3
def dkwX3_next_1 : List UInt8 := [180, 1, 61, 4, 96, 181, 1, 61, 167, 255, 233, 42, 42, 180, 1, 61, 181, 1, 55, 42, 42, 180, 1, 61]
abbrev dktX3_next_1 : List UInt8 := dkwX3_next_1 ++ dktX3_next_2
def dkwX3_next_0 : List UInt8 := [42, 180, 1, 52, 158, 0, 4, 177, 42, 42, 180, 1, 61, 182, 1, 64, 16, 32, 160, 0, 16, 42, 89]
abbrev dktX3_next_0 : List UInt8 := dkwX3_next_0 ++ dktX3_next_1
theorem dksX3_next_0 : cX3_next.data.toList.drop 0 = dktX3_next_0 := by decide +kernel
theorem dksX3_next_1 : cX3_next.data.toList.drop 23 = dktX3_next_1 := dk_seg dksX3_next_0 23 rfl rfl
theorem dksX3_next_2 : cX3_next.data.toList.drop 47 = dktX3_next_2 := dk_seg dksX3_next_1 24 rfl rfl
theorem dksX3_next_3 : cX3_next.data.toList.drop 71 = dktX3_next_3 := dk_seg dksX3_next_2 24 rfl rfl
theorem dksX3_next_4 : cX3_next.data.toList.drop 94 = dktX3_next_4 := dk_seg dksX3_next_3 23 rfl rfl
theorem dksX3_next_5 : cX3_next.data.toList.drop 118 = dktX3_next_5 := dk_seg dksX3_next_4 24 rfl rfl
theorem dksX3_next_6 : cX3_next.data.toList.drop 140 = dktX3_next_6 := dk_seg dksX3_next_5 22 rfl rfl
theorem dksX3_next_7 : cX3_next.data.toList.drop 162 = dktX3_next_7 := dk_seg dksX3_next_6 22 rfl rfl
theorem dksX3_next_8 : cX3_next.data.toList.drop 185 = dktX3_next_8 := dk_seg dksX3_next_7 23 rfl rfl
theorem dksX3_next_9 : cX3_next.data.toList.drop 208 = dktX3_next_9 := dk_seg dksX3_next_8 23 rfl rfl
theorem dksX3_next_10 : cX3_next.data.toList.drop 231 = dktX3_next_10 := dk_seg dksX3_next_9 23 rfl rfl
theorem dksX3_next_11 : cX3_next.data.toList.drop 253 = dktX3_next_11 := dk_seg dksX3_next_10 22 rfl rfl
theorem dksX3_next_12 : cX3_next.data.toList.drop 275 = dktX3_next_12 := dk_seg dksX3_next_11 22 rfl rfl
theorem dksX3_next_13 : cX3_next.data.toList.drop 299 = dktX3_next_13 := dk_seg dksX3_next_12 24 rfl rfl
theorem dksX3_next_14 : cX3_next.data.toList.drop 323 = dktX3_next_14 := dk_seg dksX3_next_13 24 rfl rfl
theorem dksX3_next_15 : cX3_next.data.toList.drop 347 = dktX3_next_15 := dk_seg dksX3_next_14 24 rfl rfl
theorem dX3_next_0 : decode cX3_next 0 = .ok (.aload_n 0, 1) := dk_42 (dk_at dksX3_next_0 0 rfl rfl)
theorem dX3_next_1 : decode cX3_next 1 = .ok (.getfield 308, 3) := dk_180 1 52 (dk_at dksX3_next_0 1 rfl rfl)
theorem dX3_next_4 : decode cX3_next 4 = .ok (.ifCond .le 4, 3) := dk_158 0 4 (dk_at dksX3_next_0 4 rfl rfl)
theorem dX3_next_7 : decode cX3_next 7 = .ok (.return_, 1) := dk_177 (dk_at dksX3_next_0 7 rfl rfl)
theorem dX3_next_8 : decode cX3_next 8 = .ok (.aload_n 0, 1) := dk_42 (dk_at dksX3_next_0 8 rfl rfl)
theorem dX3_next_9 : decode cX3_next 9 = .ok (.aload_n 0, 1) := dk_42 (dk_at dksX3_next_0 9 rfl rfl)
theorem dX3_next_10 : decode cX3_next 10 = .ok (.getfield 317, 3) := dk_180 1 61 (dk_at dksX3_next_0 10 rfl rfl)
theorem dX3_next_13 : decode cX3_next 13 = .ok (.invokevirtual 320, 3) := dk_182 1 64 (dk_at dksX3_next_0 13 rfl rfl)
theorem dX3_next_16 : decode cX3_next 16 = .ok (.bipush 32, 2) := dk_16 32 (dk_at dksX3_next_0 16 rfl rfl)
theorem dX3_next_18 : decode cX3_next 18 = .ok (.if_icmp .ne 16, 3) := dk_160 0 16 (dk_at dksX3_next_0 18 rfl rfl)
theorem dX3_next_21 : decode cX3_next 21 = .ok (.aload_n 0, 1) := dk_42 (dk_at dksX3_next_0 21 rfl rfl)
theorem dX3_next_22 : decode cX3_next 22 = .ok (.dup, 1) := dk_89 (dk_at dksX3_next_0 22 rfl rfl)
theorem dX3_next_23 : decode cX3_next 23 = .ok (.getfield 317, 3) := dk_180 1 61 (dk_at dksX3_next_1 0 rfl rfl)
theorem dX3_next_26 : decode cX3_next 26 = .ok (.iconst 1, 1) := dk_4 (dk_at dksX3_next_1 3 rfl rfl)
theorem dX3_next_27 : decode cX3_next 27 = .ok (.iadd, 1) := dk_96 (dk_at dksX3_next_1 4 rfl rfl)
theorem dX3_next_28 : decode cX3_next 28 = .ok (.putfield 317, 3) := dk_181 1 61 (dk_at dksX3_next_1 5 rfl rfl)
theorem dX3_next_31 : decode cX3_next 31 = .ok (.goto (-23), 3) := dk_167 255 233 (dk_at dksX3_next_1 8 rfl rfl)
theorem dX3_next_34 : decode cX3_next 34 = .ok (.aload_n 0, 1) := dk_42 (dk_at dksX3_next_1 11 rfl rfl)
theorem dX3_next_35 : decode cX3_next 35 = .ok (.aload_n 0, 1) := dk_42 (dk_at dksX3_next_1 12 rfl rfl)
theorem dX3_next_36 : decode cX3_next 36 = .ok (.getfield 317, 3) := dk_180 1 61 (dk_at dksX3_next_1 13 rfl rfl)
theorem dX3_next_39 : decode cX3_next 39 = .ok (.putfield 311, 3) := dk_181 1 55 (dk_at dksX3_next_1 16 rfl rfl)
theorem dX3_next_42 : decode cX3_next 42 = .ok (.aload_n 0, 1) := dk_42 (dk_at dksX3_next_1 19 rfl rfl)
theorem dX3_next_43 : decode cX3_next 43 = .ok (.aload_n 0, 1) := dk_42 (dk_at dksX3_next_1 20 rfl rfl)
theorem dX3_next_44 : decode cX3_next 44 = .ok (.getfield 317, 3) := dk_180 1 61 (dk_at dksX3_next_1 21 rfl rfl)
theorem dX3_next_47 : decode cX3_next 47 = .ok (.invokevirtual 320, 3) := dk_182 1 64 (dk_at dksX3_next_2 0 rfl rfl)
theorem dX3_next_50 : decode cX3_next 50 = .ok (.istore_n 1, 1) := dk_60 (dk_at dksX3_next_2 3 rfl rfl)
theorem dX3_next_51 : decode cX3_next 51 = .ok (.iload_n 1, 1) := dk_27 (dk_at dksX3_next_2 4 rfl rfl)
theorem dX3_next_52 : decode cX3_next 52 = .ok (.ifCond .ge 11, 3) := dk_156 0 11 (dk_at dksX3_next_2 5 rfl rfl)
theorem dX3_next_55 : decode cX3_next 55 = .ok (.aload_n 0, 1) := dk_42 (dk_at dksX3_next_2 8 rfl rfl)
theorem dX3_next_56 : decode cX3_next 56 = .ok (.iconst 0, 1) := dk_3 (dk_at dksX3_next_2 9 rfl rfl)
theorem dX3_next_57 : decode cX3_next 57 = .ok (.putfield 335, 3) := dk_181 1 79 (dk_at dksX3_next_2 10 rfl rfl)
theorem dX3_next_60 : decode cX3_next 60 = .ok (.goto 297, 3) := dk_167 1 41 (dk_at dksX3_next_2 13 rfl rfl)
theorem dX3_next_63 : decode cX3_next 63 = .ok (.iload_n 1, 1) := dk_27 (dk_at dksX3_next_2 16 rfl rfl)
theorem dX3_next_64 : decode cX3_next 64 = .ok (.i2l, 1) := dk_133 (dk_at dksX3_next_2 17 rfl rfl)
theorem dX3_next_65 : decode cX3_next 65 = .ok (.ldc2_w 338, 3) := dk_20 1 82 (dk_at dksX3_next_2 18 rfl rfl)
theorem dX3_next_68 : decode cX3_next 68 = .ok (.ldc2_w 340, 3) := dk_20 1 84 (dk_at dksX3_next_2 21 rfl rfl)
theorem dX3_next_71 : decode cX3_next 71 = .ok (.invokestatic 214, 3) := dk_184 0 214 (dk_at dksX3_next_3 0 rfl rfl)
theorem dX3_next_74 : decode cX3_next 74 = .ok (.ifCond .eq 72, 3) := dk_153 0 72 (dk_at dksX3_next_3 3 rfl rfl)
theorem dX3_next_77 : decode cX3_next 77 = .ok (.aload_n 0, 1) := dk_42 (dk_at dksX3_next_3 6 rfl rfl)
theorem dX3_next_78 : decode cX3_next 78 = .ok (.iconst 1, 1) := dk_4 (dk_at dksX3_next_3 7 rfl rfl)
theorem dX3_next_79 : decode cX3_next 79 = .ok (.putfield 335, 3) := dk_181 1 79 (dk_at dksX3_next_3 8 rfl rfl)
theorem dX3_next_82 : decode cX3_next 82 = .ok (.aload_n 0, 1) := dk_42 (dk_at dksX3_next_3 11 rfl rfl)
theorem dX3_next_83 : decode cX3_next 83 = .ok (.aload_n 0, 1) := dk_42 (dk_at dksX3_next_3 12 rfl rfl)
theorem dX3_next_84 : decode cX3_next 84 = .ok (.getfield 317, 3) := dk_180 1 61 (dk_at dksX3_next_3 13 rfl rfl)
theorem dX3_next_87 : decode cX3_next 87 = .ok (.invokevirtual 320, 3) := dk_182 1 64 (dk_at dksX3_next_3 16 rfl rfl)
theorem dX3_next_90 : decode cX3_next 90 = .ok (.i2l, 1) := dk_133 (dk_at dksX3_next_3 19 rfl rfl)
theorem dX3_next_91 : decode cX3_next 91 = .ok (.ldc2_w 338, 3) := dk_20 1 82 (dk_at dksX3_next_3 20 rfl rfl)
theorem dX3_next_94 : decode cX3_next 94 = .ok (.ldc2_w 340, 3) := dk_20 1 84 (dk_at dksX3_next_4 0 rfl rfl)
theorem dX3_next_97 : decode cX3_next 97 = .ok (.invokestatic 214, 3) := dk_184 0 214 (dk_at dksX3_next_4 3 rfl rfl)
theorem dX3_next_100 : decode cX3_next 100 = .ok (.ifCond .eq 16, 3) := dk_153 0 16 (dk_at dksX3_next_4 6 rfl rfl)
theorem dX3_next_103 : decode cX3_next 103 = .ok (.aload_n 0, 1) := dk_42 (dk_at dksX3_next_4 9 rfl rfl)
theorem dX3_next_104 : decode cX3_next 104 = .ok (.dup, 1) := dk_89 (dk_at dksX3_next_4 10 rfl rfl)
theorem dX3_next_105 : decode cX3_next 105 = .ok (.getfield 317, 3) := dk_180 1 61 (dk_at dksX3_next_4 11 rfl rfl)
theorem dX3_next_108 : decode cX3_next 108 = .ok (.iconst 1, 1) := dk_4 (dk_at dksX3_next_4 14 rfl rfl)
theorem dX3_next_109 : decode cX3_next 109 = .ok (.iadd, 1) := dk_96 (dk_at dksX3_next_4 15 rfl rfl)
theorem dX3_next_110 : decode cX3_next 110 = .ok (.putfield 317, 3) := dk_181 1 61 (dk_at dksX3_next_4 16 rfl rfl)
theorem dX3_next_113 : decode cX3_next 113 = .ok (.goto (-31), 3) := dk_167 255 225 (dk_at dksX3_next_4 19 rfl rfl)
theorem dX3_next_116 : decode cX3_next 116 = .ok (.aload_n 0, 1) := dk_42 (dk_at dksX3_next_4 22 rfl rfl)
theorem dX3_next_117 : decode cX3_next 117 = .ok (.aload_n 0, 1) := dk_42 (dk_at dksX3_next_4 23 rfl rfl)
theorem dX3_next_118 : decode cX3_next 118 = .ok (.invokevirtual 342, 3) := dk_182 1 86 (dk_at dksX3_next_5 0 rfl rfl)
theorem dX3_next_121 : decode cX3_next 121 = .ok (.putfield 345, 3) := dk_181 1 89 (dk_at dksX3_next_5 3 rfl rfl)
theorem dX3_next_124 : decode cX3_next 124 = .ok (.aload_n 0, 1) := dk_42 (dk_at dksX3_next_5 6 rfl rfl)
theorem dX3_next_125 : decode cX3_next 125 = .ok (.aload_n 0, 1) := dk_42 (dk_at dksX3_next_5 7 rfl rfl)
theorem dX3_next_126 : decode cX3_next 126 = .ok (.getfield 345, 3) := dk_180 1 89 (dk_at dksX3_next_5 8 rfl rfl)
theorem dX3_next_129 : decode cX3_next 129 = .ok (.bipush (-4), 2) := dk_16 252 (dk_at dksX3_next_5 11 rfl rfl)
theorem dX3_next_131 : decode cX3_next 131 = .ok (.if_icmp .eq 7, 3) := dk_159 0 7 (dk_at dksX3_next_5 13 rfl rfl)
theorem dX3_next_134 : decode cX3_next 134 = .ok (.iconst 1, 1) := dk_4 (dk_at dksX3_next_5 16 rfl rfl)
theorem dX3_next_135 : decode cX3_next 135 = .ok (.goto 4, 3) := dk_167 0 4 (dk_at dksX3_next_5 17 rfl rfl)
theorem dX3_next_138 : decode cX3_next 138 = .ok (.iconst 0, 1) := dk_3 (dk_at dksX3_next_5 20 rfl rfl)
theorem dX3_next_139 : decode cX3_next 139 = .ok (.iconst 1, 1) := dk_4 (dk_at dksX3_next_5 21 rfl rfl)
theorem dX3_next_140 : decode cX3_next 140 = .ok (.invokevirtual 348, 3) := dk_182 1 92 (dk_at dksX3_next_6 0 rfl rfl)
theorem dX3_next_143 : decode cX3_next 143 = .ok (.goto 214, 3) := dk_167 0 214 (dk_at dksX3_next_6 3 rfl rfl)
theorem dX3_next_146 : decode cX3_next 146 = .ok (.iload_n 1, 1) := dk_27 (dk_at dksX3_next_6 6 rfl rfl)
theorem dX3_next_147 : decode cX3_next 147 = .ok (.i2l, 1) := dk_133 (dk_at dksX3_next_6 7 rfl rfl)
theorem dX3_next_148 : decode cX3_next 148 = .ok (.ldc2_w 352, 3) := dk_20 1 96 (dk_at dksX3_next_6 8 rfl rfl)
theorem dX3_next_151 : decode cX3_next 151 = .ok (.ldc2_w 354, 3) := dk_20 1 98 (dk_at dksX3_next_6 11 rfl rfl)
theorem dX3_next_154 : decode cX3_next 154 = .ok (.invokestatic 214, 3) := dk_184 0 214 (dk_at dksX3_next_6 14 rfl rfl)
theorem dX3_next_157 : decode cX3_next 157 = .ok (.ifCond .eq 116, 3) := dk_153 0 116 (dk_at dksX3_next_6 17 rfl rfl)
theorem dX3_next_160 : decode cX3_next 160 = .ok (.aload_n 0, 1) := dk_42 (dk_at dksX3_next_6 20 rfl rfl)
theorem dX3_next_161 : decode cX3_next 161 = .ok (.iconst 2, 1) := dk_5 (dk_at dksX3_next_6 21 rfl rfl)
theorem dX3_next_162 : decode cX3_next 162 = .ok (.putfield 335, 3) := dk_181 1 79 (dk_at dksX3_next_7 0 rfl rfl)
theorem dX3_next_165 : decode cX3_next 165 = .ok (.aload_n 0, 1) := dk_42 (dk_at dksX3_next_7 3 rfl rfl)
theorem dX3_next_166 : decode cX3_next 166 = .ok (.iconst 0, 1) := dk_3 (dk_at dksX3_next_7 4 rfl rfl)
theorem dX3_next_167 : decode cX3_next 167 = .ok (.putfield 345, 3) := dk_181 1 89 (dk_at dksX3_next_7 5 rfl rfl)
theorem dX3_next_170 : decode cX3_next 170 = .ok (.aload_n 0, 1) := dk_42 (dk_at dksX3_next_7 8 rfl rfl)
theorem dX3_next_171 : decode cX3_next 171 = .ok (.aload_n 0, 1) := dk_42 (dk_at dksX3_next_7 9 rfl rfl)
theorem dX3_next_172 : decode cX3_next 172 = .ok (.getfield 317, 3) := dk_180 1 61 (dk_at dksX3_next_7 10 rfl rfl)
theorem dX3_next_175 : decode cX3_next 175 = .ok (.invokevirtual 320, 3) := dk_182 1 64 (dk_at dksX3_next_7 13 rfl rfl)
theorem dX3_next_178 : decode cX3_next 178 = .ok (.i2l, 1) := dk_133 (dk_at dksX3_next_7 16 rfl rfl)
theorem dX3_next_179 : decode cX3_next 179 = .ok (.ldc2_w 352, 3) := dk_20 1 96 (dk_at dksX3_next_7 17 rfl rfl)
theorem dX3_next_182 : decode cX3_next 182 = .ok (.ldc2_w 354, 3) := dk_20 1 98 (dk_at dksX3_next_7 20 rfl rfl)
theorem dX3_next_185 : decode cX3_next 185 = .ok (.invokestatic 214, 3) := dk_184 0 214 (dk_at dksX3_next_8 0 rfl rfl)
theorem dX3_next_188 : decode cX3_next 188 = .ok (.ifCond .eq 59, 3) := dk_153 0 59 (dk_at dksX3_next_8 3 rfl rfl)
theorem dX3_next_191 : decode cX3_next 191 = .ok (.aload_n 0, 1) := dk_42 (dk_at dksX3_next_8 6 rfl rfl)
theorem dX3_next_192 : decode cX3_next 192 = .ok (.aload_n 0, 1) := dk_42 (dk_at dksX3_next_8 7 rfl rfl)
theorem dX3_next_193 : decode cX3_next 193 = .ok (.getfield 317, 3) := dk_180 1 61 (dk_at dksX3_next_8 8 rfl rfl)
theorem dX3_next_196 : decode cX3_next 196 = .ok (.aload_n 0, 1) := dk_42 (dk_at dksX3_next_8 11 rfl rfl)
theorem dX3_next_197 : decode cX3_next 197 = .ok (.getfield 311, 3) := dk_180 1 55 (dk_at dksX3_next_8 12 rfl rfl)
theorem dX3_next_200 : decode cX3_next 200 = .ok (.isub, 1) := dk_100 (dk_at dksX3_next_8 15 rfl rfl)
theorem dX3_next_201 : decode cX3_next 201 = .ok (.iconst 4, 1) := dk_7 (dk_at dksX3_next_8 16 rfl rfl)
theorem dX3_next_202 : decode cX3_next 202 = .ok (.if_icmp .ge 25, 3) := dk_162 0 25 (dk_at dksX3_next_8 17 rfl rfl)
theorem dX3_next_205 : decode cX3_next 205 = .ok (.bipush 10, 2) := dk_16 10 (dk_at dksX3_next_8 20 rfl rfl)
theorem dX3_next_207 : decode cX3_next 207 = .ok (.aload_n 0, 1) := dk_42 (dk_at dksX3_next_8 22 rfl rfl)
theorem dX3_next_208 : decode cX3_next 208 = .ok (.getfield 345, 3) := dk_180 1 89 (dk_at dksX3_next_9 0 rfl rfl)
theorem dX3_next_211 : decode cX3_next 211 = .ok (.imul, 1) := dk_104 (dk_at dksX3_next_9 3 rfl rfl)
theorem dX3_next_212 : decode cX3_next 212 = .ok (.aload_n 0, 1) := dk_42 (dk_at dksX3_next_9 4 rfl rfl)
theorem dX3_next_213 : decode cX3_next 213 = .ok (.aload_n 0, 1) := dk_42 (dk_at dksX3_next_9 5 rfl rfl)
theorem dX3_next_214 : decode cX3_next 214 = .ok (.getfield 317, 3) := dk_180 1 61 (dk_at dksX3_next_9 6 rfl rfl)
theorem dX3_next_217 : decode cX3_next 217 = .ok (.invokevirtual 320, 3) := dk_182 1 64 (dk_at dksX3_next_9 9 rfl rfl)
theorem dX3_next_220 : decode cX3_next 220 = .ok (.iadd, 1) := dk_96 (dk_at dksX3_next_9 12 rfl rfl)
theorem dX3_next_221 : decode cX3_next 221 = .ok (.bipush 48, 2) := dk_16 48 (dk_at dksX3_next_9 13 rfl rfl)
theorem dX3_next_223 : decode cX3_next 223 = .ok (.isub, 1) := dk_100 (dk_at dksX3_next_9 15 rfl rfl)
theorem dX3_next_224 : decode cX3_next 224 = .ok (.goto 7, 3) := dk_167 0 7 (dk_at dksX3_next_9 16 rfl rfl)
theorem dX3_next_227 : decode cX3_next 227 = .ok (.aload_n 0, 1) := dk_42 (dk_at dksX3_next_9 19 rfl rfl)
theorem dX3_next_228 : decode cX3_next 228 = .ok (.getfield 345, 3) := dk_180 1 89 (dk_at dksX3_next_9 20 rfl rfl)
theorem dX3_next_231 : decode cX3_next 231 = .ok (.putfield 345, 3) := dk_181 1 89 (dk_at dksX3_next_10 0 rfl rfl)
theorem dX3_next_234 : decode cX3_next 234 = .ok (.aload_n 0, 1) := dk_42 (dk_at dksX3_next_10 3 rfl rfl)
theorem dX3_next_235 : decode cX3_next 235 = .ok (.dup, 1) := dk_89 (dk_at dksX3_next_10 4 rfl rfl)
theorem dX3_next_236 : decode cX3_next 236 = .ok (.getfield 317, 3) := dk_180 1 61 (dk_at dksX3_next_10 5 rfl rfl)
theorem dX3_next_239 : decode cX3_next 239 = .ok (.iconst 1, 1) := dk_4 (dk_at dksX3_next_10 8 rfl rfl)
theorem dX3_next_240 : decode cX3_next 240 = .ok (.iadd, 1) := dk_96 (dk_at dksX3_next_10 9 rfl rfl)
theorem dX3_next_241 : decode cX3_next 241 = .ok (.putfield 317, 3) := dk_181 1 61 (dk_at dksX3_next_10 10 rfl rfl)
theorem dX3_next_244 : decode cX3_next 244 = .ok (.goto (-74), 3) := dk_167 255 182 (dk_at dksX3_next_10 13 rfl rfl)
theorem dX3_next_247 : decode cX3_next 247 = .ok (.aload_n 0, 1) := dk_42 (dk_at dksX3_next_10 16 rfl rfl)
theorem dX3_next_248 : decode cX3_next 248 = .ok (.aload_n 0, 1) := dk_42 (dk_at dksX3_next_10 17 rfl rfl)
theorem dX3_next_249 : decode cX3_next 249 = .ok (.getfield 317, 3) := dk_180 1 61 (dk_at dksX3_next_10 18 rfl rfl)
theorem dX3_next_252 : decode cX3_next 252 = .ok (.aload_n 0, 1) := dk_42 (dk_at dksX3_next_10 21 rfl rfl)
theorem dX3_next_253 : decode cX3_next 253 = .ok (.getfield 311, 3) := dk_180 1 55 (dk_at dksX3_next_11 0 rfl rfl)
theorem dX3_next_256 : decode cX3_next 256 = .ok (.isub, 1) := dk_100 (dk_at dksX3_next_11 3 rfl rfl)
theorem dX3_next_257 : decode cX3_next 257 = .ok (.iconst 4, 1) := dk_7 (dk_at dksX3_next_11 4 rfl rfl)
theorem dX3_next_258 : decode cX3_next 258 = .ok (.if_icmp .gt 7, 3) := dk_163 0 7 (dk_at dksX3_next_11 5 rfl rfl)
theorem dX3_next_261 : decode cX3_next 261 = .ok (.iconst 1, 1) := dk_4 (dk_at dksX3_next_11 8 rfl rfl)
theorem dX3_next_262 : decode cX3_next 262 = .ok (.goto 4, 3) := dk_167 0 4 (dk_at dksX3_next_11 9 rfl rfl)
theorem dX3_next_265 : decode cX3_next 265 = .ok (.iconst 0, 1) := dk_3 (dk_at dksX3_next_11 12 rfl rfl)
theorem dX3_next_266 : decode cX3_next 266 = .ok (.iconst 1, 1) := dk_4 (dk_at dksX3_next_11 13 rfl rfl)
theorem dX3_next_267 : decode cX3_next 267 = .ok (.invokevirtual 348, 3) := dk_182 1 92 (dk_at dksX3_next_11 14 rfl rfl)
theorem dX3_next_270 : decode cX3_next 270 = .ok (.goto 87, 3) := dk_167 0 87 (dk_at dksX3_next_11 17 rfl rfl)
theorem dX3_next_273 : decode cX3_next 273 = .ok (.aload_n 0, 1) := dk_42 (dk_at dksX3_next_11 20 rfl rfl)
theorem dX3_next_274 : decode cX3_next 274 = .ok (.iconst 3, 1) := dk_6 (dk_at dksX3_next_11 21 rfl rfl)
theorem dX3_next_275 : decode cX3_next 275 = .ok (.putfield 335, 3) := dk_181 1 79 (dk_at dksX3_next_12 0 rfl rfl)
theorem dX3_next_278 : decode cX3_next 278 = .ok (.aload_n 0, 1) := dk_42 (dk_at dksX3_next_12 3 rfl rfl)
theorem dX3_next_279 : decode cX3_next 279 = .ok (.iload_n 1, 1) := dk_27 (dk_at dksX3_next_12 4 rfl rfl)
theorem dX3_next_280 : decode cX3_next 280 = .ok (.putfield 345, 3) := dk_181 1 89 (dk_at dksX3_next_12 5 rfl rfl)
theorem dX3_next_283 : decode cX3_next 283 = .ok (.aload_n 0, 1) := dk_42 (dk_at dksX3_next_12 8 rfl rfl)
theorem dX3_next_284 : decode cX3_next 284 = .ok (.iload_n 1, 1) := dk_27 (dk_at dksX3_next_12 9 rfl rfl)
theorem dX3_next_285 : decode cX3_next 285 = .ok (.bipush 40, 2) := dk_16 40 (dk_at dksX3_next_12 10 rfl rfl)
theorem dX3_next_287 : decode cX3_next 287 = .ok (.if_icmp .eq 51, 3) := dk_159 0 51 (dk_at dksX3_next_12 12 rfl rfl)
theorem dX3_next_290 : decode cX3_next 290 = .ok (.iload_n 1, 1) := dk_27 (dk_at dksX3_next_12 15 rfl rfl)
theorem dX3_next_291 : decode cX3_next 291 = .ok (.bipush 41, 2) := dk_16 41 (dk_at dksX3_next_12 16 rfl rfl)
theorem dX3_next_293 : decode cX3_next 293 = .ok (.if_icmp .eq 45, 3) := dk_159 0 45 (dk_at dksX3_next_12 18 rfl rfl)
theorem dX3_next_296 : decode cX3_next 296 = .ok (.iload_n 1, 1) := dk_27 (dk_at dksX3_next_12 21 rfl rfl)
theorem dX3_next_297 : decode cX3_next 297 = .ok (.bipush 43, 2) := dk_16 43 (dk_at dksX3_next_12 22 rfl rfl)
theorem dX3_next_299 : decode cX3_next 299 = .ok (.if_icmp .eq 39, 3) := dk_159 0 39 (dk_at dksX3_next_13 0 rfl rfl)
theorem dX3_next_302 : decode cX3_next 302 = .ok (.iload_n 1, 1) := dk_27 (dk_at dksX3_next_13 3 rfl rfl)
theorem dX3_next_303 : decode cX3_next 303 = .ok (.bipush 45, 2) := dk_16 45 (dk_at dksX3_next_13 4 rfl rfl)
theorem dX3_next_305 : decode cX3_next 305 = .ok (.if_icmp .eq 33, 3) := dk_159 0 33 (dk_at dksX3_next_13 6 rfl rfl)
theorem dX3_next_308 : decode cX3_next 308 = .ok (.iload_n 1, 1) := dk_27 (dk_at dksX3_next_13 9 rfl rfl)
theorem dX3_next_309 : decode cX3_next 309 = .ok (.bipush 42, 2) := dk_16 42 (dk_at dksX3_next_13 10 rfl rfl)
theorem dX3_next_311 : decode cX3_next 311 = .ok (.if_icmp .eq 27, 3) := dk_159 0 27 (dk_at dksX3_next_13 12 rfl rfl)
theorem dX3_next_314 : decode cX3_next 314 = .ok (.iload_n 1, 1) := dk_27 (dk_at dksX3_next_13 15 rfl rfl)
theorem dX3_next_315 : decode cX3_next 315 = .ok (.bipush 60, 2) := dk_16 60 (dk_at dksX3_next_13 16 rfl rfl)
theorem dX3_next_317 : decode cX3_next 317 = .ok (.if_icmp .eq 21, 3) := dk_159 0 21 (dk_at dksX3_next_13 18 rfl rfl)
theorem dX3_next_320 : decode cX3_next 320 = .ok (.iload_n 1, 1) := dk_27 (dk_at dksX3_next_13 21 rfl rfl)
theorem dX3_next_321 : decode cX3_next 321 = .ok (.bipush 62, 2) := dk_16 62 (dk_at dksX3_next_13 22 rfl rfl)
theorem dX3_next_323 : decode cX3_next 323 = .ok (.if_icmp .eq 15, 3) := dk_159 0 15 (dk_at dksX3_next_14 0 rfl rfl)
theorem dX3_next_326 : decode cX3_next 326 = .ok (.iload_n 1, 1) := dk_27 (dk_at dksX3_next_14 3 rfl rfl)
theorem dX3_next_327 : decode cX3_next 327 = .ok (.bipush 61, 2) := dk_16 61 (dk_at dksX3_next_14 4 rfl rfl)
theorem dX3_next_329 : decode cX3_next 329 = .ok (.if_icmp .eq 9, 3) := dk_159 0 9 (dk_at dksX3_next_14 6 rfl rfl)
theorem dX3_next_332 : decode cX3_next 332 = .ok (.iload_n 1, 1) := dk_27 (dk_at dksX3_next_14 9 rfl rfl)
theorem dX3_next_333 : decode cX3_next 333 = .ok (.bipush 59, 2) := dk_16 59 (dk_at dksX3_next_14 10 rfl rfl)
theorem dX3_next_335 : decode cX3_next 335 = .ok (.if_icmp .ne 7, 3) := dk_160 0 7 (dk_at dksX3_next_14 12 rfl rfl)
theorem dX3_next_338 : decode cX3_next 338 = .ok (.iconst 1, 1) := dk_4 (dk_at dksX3_next_14 15 rfl rfl)
theorem dX3_next_339 : decode cX3_next 339 = .ok (.goto 4, 3) := dk_167 0 4 (dk_at dksX3_next_14 16 rfl rfl)
theorem dX3_next_342 : decode cX3_next 342 = .ok (.iconst 0, 1) := dk_3 (dk_at dksX3_next_14 19 rfl rfl)
theorem dX3_next_343 : decode cX3_next 343 = .ok (.iconst 1, 1) := dk_4 (dk_at dksX3_next_14 20 rfl rfl)
theorem dX3_next_344 : decode cX3_next 344 = .ok (.invokevirtual 348, 3) := dk_182 1 92 (dk_at dksX3_next_14 21 rfl rfl)
theorem dX3_next_347 : decode cX3_next 347 = .ok (.aload_n 0, 1) := dk_42 (dk_at dksX3_next_15 0 rfl rfl)
theorem dX3_next_348 : decode cX3_next 348 = .ok (.dup, 1) := dk_89 (dk_at dksX3_next_15 1 rfl rfl)
theorem dX3_next_349 : decode cX3_next 349 = .ok (.getfield 317, 3) := dk_180 1 61 (dk_at dksX3_next_15 2 rfl rfl)
theorem dX3_next_352 : decode cX3_next 352 = .ok (.iconst 1, 1) := dk_4 (dk_at dksX3_next_15 5 rfl rfl)
theorem dX3_next_353 : decode cX3_next 353 = .ok (.iadd, 1) := dk_96 (dk_at dksX3_next_15 6 rfl rfl)
theorem dX3_next_354 : decode cX3_next 354 = .ok (.putfield 317, 3) := dk_181 1 61 (dk_at dksX3_next_15 7 rfl rfl)
theorem dX3_next_357 : decode cX3_next 357 = .ok (.return_, 1) := dk_177 (dk_at dksX3_next_15 10 rfl rfl)
abbrev cX3_look : ByteArray := prog_26_method_43_code
def yX3_look : MethodName := ⟨RX3, "look", "(I)I"⟩
def dkwX3_look_0 : List UInt8 := [27, 42, 180, 1, 47, 162, 0, 12, 42, 180, 0, 74, 27, 46, 167, 0, 4, 2, 172]
abbrev dktX3_look_0 : List UInt8 := dkwX3_look_0 ++ []
theorem dksX3_look_0 : cX3_look.data.toList.drop 0 = dktX3_look_0 := by decide +kernel
theorem dX3_look_0 : decode cX3_look 0 = .ok (.iload_n 1, 1) := dk_27 (dk_at dksX3_look_0 0 rfl rfl)
theorem dX3_look_1 : decode cX3_look 1 = .ok (.aload_n 0, 1) := dk_42 (dk_at dksX3_look_0 1 rfl rfl)
theorem dX3_look_2 : decode cX3_look 2 = .ok (.getfield 303, 3) := dk_180 1 47 (dk_at dksX3_look_0 2 rfl rfl)
theorem dX3_look_5 : decode cX3_look 5 = .ok (.if_icmp .ge 12, 3) := dk_162 0 12 (dk_at dksX3_look_0 5 rfl rfl)
theorem dX3_look_8 : decode cX3_look 8 = .ok (.aload_n 0, 1) := dk_42 (dk_at dksX3_look_0 8 rfl rfl)
theorem dX3_look_9 : decode cX3_look 9 = .ok (.getfield 74, 3) := dk_180 0 74 (dk_at dksX3_look_0 9 rfl rfl)
theorem dX3_look_12 : decode cX3_look 12 = .ok (.iload_n 1, 1) := dk_27 (dk_at dksX3_look_0 12 rfl rfl)
theorem dX3_look_13 : decode cX3_look 13 = .ok (.iaload, 1) := dk_46 (dk_at dksX3_look_0 13 rfl rfl)
theorem dX3_look_14 : decode cX3_look 14 = .ok (.goto 4, 3) := dk_167 0 4 (dk_at dksX3_look_0 14 rfl rfl)
theorem dX3_look_17 : decode cX3_look 17 = .ok (.iconst (-1), 1) := dk_2 (dk_at dksX3_look_0 17 rfl rfl)
theorem dX3_look_18 : decode cX3_look 18 = .ok (.ireturn, 1) := dk_172 (dk_at dksX3_look_0 18 rfl rfl)
abbrev cX3_nameNow : ByteArray := prog_26_method_46_code
def yX3_nameNow : MethodName := ⟨RX3, "nameNow", "()I"⟩
def dkwX3_nameNow_5 : List UInt8 := [16, 6, 172, 42, 182, 1, 71, 172]
abbrev dktX3_nameNow_5 : List UInt8 := dkwX3_nameNow_5 ++ []
def dkwX3_nameNow_4 : List UInt8 := [182, 1, 67, 153, 0, 5, 8, 172, 42, 6, 16, 110, 16, 111, 16, 116, 3, 182, 1, 67, 153, 0, 6]
abbrev dktX3_nameNow_4 : List UInt8 := dkwX3_nameNow_4 ++ dktX3_nameNow_5
def dkwX3_nameNow_3 : List UInt8 := [5, 16, 111, 16, 114, 3, 3, 182, 1, 67, 153, 0, 5, 7, 172, 42, 6, 16, 97, 16, 110, 16, 100, 3]
abbrev dktX3_nameNow_3 : List UInt8 := dkwX3_nameNow_3 ++ dktX3_nameNow_4
def dkwX3_nameNow_2 : List UInt8 := [153, 0, 5, 5, 172, 42, 7, 16, 98, 16, 97, 16, 99, 16, 107, 182, 1, 67, 153, 0, 5, 6, 172, 42]
abbrev dktX3_nameNow_2 : List UInt8 := dkwX3_nameNow_2 ++ dktX3_nameNow_3
def dkwX3_nameNow_1 : List UInt8 := [16, 121, 3, 182, 1, 67, 153, 0, 5, 4, 172, 42, 6, 16, 97, 16, 115, 16, 107, 3, 182, 1, 67]
abbrev dktX3_nameNow_1 : List UInt8 := dkwX3_nameNow_1 ++ dktX3_nameNow_2
def dkwX3_nameNow_0 : List UInt8 := [42, 6, 16, 98, 16, 97, 16, 114, 3, 182, 1, 67, 153, 0, 5, 3, 172, 42, 6, 16, 112, 16, 97]
abbrev dktX3_nameNow_0 : List UInt8 := dkwX3_nameNow_0 ++ dktX3_nameNow_1
theorem dksX3_nameNow_0 : cX3_nameNow.data.toList.drop 0 = dktX3_nameNow_0 := by decide +kernel
theorem dksX3_nameNow_1 : cX3_nameNow.data.toList.drop 23 = dktX3_nameNow_1 := dk_seg dksX3_nameNow_0 23 rfl rfl
theorem dksX3_nameNow_2 : cX3_nameNow.data.toList.drop 46 = dktX3_nameNow_2 := dk_seg dksX3_nameNow_1 23 rfl rfl
theorem dksX3_nameNow_3 : cX3_nameNow.data.toList.drop 70 = dktX3_nameNow_3 := dk_seg dksX3_nameNow_2 24 rfl rfl
theorem dksX3_nameNow_4 : cX3_nameNow.data.toList.drop 94 = dktX3_nameNow_4 := dk_seg dksX3_nameNow_3 24 rfl rfl
theorem dksX3_nameNow_5 : cX3_nameNow.data.toList.drop 117 = dktX3_nameNow_5 := dk_seg dksX3_nameNow_4 23 rfl rfl
theorem dX3_nameNow_0 : decode cX3_nameNow 0 = .ok (.aload_n 0, 1) := dk_42 (dk_at dksX3_nameNow_0 0 rfl rfl)
theorem dX3_nameNow_1 : decode cX3_nameNow 1 = .ok (.iconst 3, 1) := dk_6 (dk_at dksX3_nameNow_0 1 rfl rfl)
theorem dX3_nameNow_2 : decode cX3_nameNow 2 = .ok (.bipush 98, 2) := dk_16 98 (dk_at dksX3_nameNow_0 2 rfl rfl)
theorem dX3_nameNow_4 : decode cX3_nameNow 4 = .ok (.bipush 97, 2) := dk_16 97 (dk_at dksX3_nameNow_0 4 rfl rfl)
theorem dX3_nameNow_6 : decode cX3_nameNow 6 = .ok (.bipush 114, 2) := dk_16 114 (dk_at dksX3_nameNow_0 6 rfl rfl)
theorem dX3_nameNow_8 : decode cX3_nameNow 8 = .ok (.iconst 0, 1) := dk_3 (dk_at dksX3_nameNow_0 8 rfl rfl)
theorem dX3_nameNow_9 : decode cX3_nameNow 9 = .ok (.invokevirtual 323, 3) := dk_182 1 67 (dk_at dksX3_nameNow_0 9 rfl rfl)
theorem dX3_nameNow_12 : decode cX3_nameNow 12 = .ok (.ifCond .eq 5, 3) := dk_153 0 5 (dk_at dksX3_nameNow_0 12 rfl rfl)
theorem dX3_nameNow_15 : decode cX3_nameNow 15 = .ok (.iconst 0, 1) := dk_3 (dk_at dksX3_nameNow_0 15 rfl rfl)
theorem dX3_nameNow_16 : decode cX3_nameNow 16 = .ok (.ireturn, 1) := dk_172 (dk_at dksX3_nameNow_0 16 rfl rfl)
theorem dX3_nameNow_17 : decode cX3_nameNow 17 = .ok (.aload_n 0, 1) := dk_42 (dk_at dksX3_nameNow_0 17 rfl rfl)
theorem dX3_nameNow_18 : decode cX3_nameNow 18 = .ok (.iconst 3, 1) := dk_6 (dk_at dksX3_nameNow_0 18 rfl rfl)
theorem dX3_nameNow_19 : decode cX3_nameNow 19 = .ok (.bipush 112, 2) := dk_16 112 (dk_at dksX3_nameNow_0 19 rfl rfl)
theorem dX3_nameNow_21 : decode cX3_nameNow 21 = .ok (.bipush 97, 2) := dk_16 97 (dk_at dksX3_nameNow_0 21 rfl rfl)
theorem dX3_nameNow_23 : decode cX3_nameNow 23 = .ok (.bipush 121, 2) := dk_16 121 (dk_at dksX3_nameNow_1 0 rfl rfl)
theorem dX3_nameNow_25 : decode cX3_nameNow 25 = .ok (.iconst 0, 1) := dk_3 (dk_at dksX3_nameNow_1 2 rfl rfl)
theorem dX3_nameNow_26 : decode cX3_nameNow 26 = .ok (.invokevirtual 323, 3) := dk_182 1 67 (dk_at dksX3_nameNow_1 3 rfl rfl)
theorem dX3_nameNow_29 : decode cX3_nameNow 29 = .ok (.ifCond .eq 5, 3) := dk_153 0 5 (dk_at dksX3_nameNow_1 6 rfl rfl)
theorem dX3_nameNow_32 : decode cX3_nameNow 32 = .ok (.iconst 1, 1) := dk_4 (dk_at dksX3_nameNow_1 9 rfl rfl)
theorem dX3_nameNow_33 : decode cX3_nameNow 33 = .ok (.ireturn, 1) := dk_172 (dk_at dksX3_nameNow_1 10 rfl rfl)
theorem dX3_nameNow_34 : decode cX3_nameNow 34 = .ok (.aload_n 0, 1) := dk_42 (dk_at dksX3_nameNow_1 11 rfl rfl)
theorem dX3_nameNow_35 : decode cX3_nameNow 35 = .ok (.iconst 3, 1) := dk_6 (dk_at dksX3_nameNow_1 12 rfl rfl)
theorem dX3_nameNow_36 : decode cX3_nameNow 36 = .ok (.bipush 97, 2) := dk_16 97 (dk_at dksX3_nameNow_1 13 rfl rfl)
theorem dX3_nameNow_38 : decode cX3_nameNow 38 = .ok (.bipush 115, 2) := dk_16 115 (dk_at dksX3_nameNow_1 15 rfl rfl)
theorem dX3_nameNow_40 : decode cX3_nameNow 40 = .ok (.bipush 107, 2) := dk_16 107 (dk_at dksX3_nameNow_1 17 rfl rfl)
theorem dX3_nameNow_42 : decode cX3_nameNow 42 = .ok (.iconst 0, 1) := dk_3 (dk_at dksX3_nameNow_1 19 rfl rfl)
theorem dX3_nameNow_43 : decode cX3_nameNow 43 = .ok (.invokevirtual 323, 3) := dk_182 1 67 (dk_at dksX3_nameNow_1 20 rfl rfl)
theorem dX3_nameNow_46 : decode cX3_nameNow 46 = .ok (.ifCond .eq 5, 3) := dk_153 0 5 (dk_at dksX3_nameNow_2 0 rfl rfl)
theorem dX3_nameNow_49 : decode cX3_nameNow 49 = .ok (.iconst 2, 1) := dk_5 (dk_at dksX3_nameNow_2 3 rfl rfl)
theorem dX3_nameNow_50 : decode cX3_nameNow 50 = .ok (.ireturn, 1) := dk_172 (dk_at dksX3_nameNow_2 4 rfl rfl)
theorem dX3_nameNow_51 : decode cX3_nameNow 51 = .ok (.aload_n 0, 1) := dk_42 (dk_at dksX3_nameNow_2 5 rfl rfl)
theorem dX3_nameNow_52 : decode cX3_nameNow 52 = .ok (.iconst 4, 1) := dk_7 (dk_at dksX3_nameNow_2 6 rfl rfl)
theorem dX3_nameNow_53 : decode cX3_nameNow 53 = .ok (.bipush 98, 2) := dk_16 98 (dk_at dksX3_nameNow_2 7 rfl rfl)
theorem dX3_nameNow_55 : decode cX3_nameNow 55 = .ok (.bipush 97, 2) := dk_16 97 (dk_at dksX3_nameNow_2 9 rfl rfl)
theorem dX3_nameNow_57 : decode cX3_nameNow 57 = .ok (.bipush 99, 2) := dk_16 99 (dk_at dksX3_nameNow_2 11 rfl rfl)
theorem dX3_nameNow_59 : decode cX3_nameNow 59 = .ok (.bipush 107, 2) := dk_16 107 (dk_at dksX3_nameNow_2 13 rfl rfl)
theorem dX3_nameNow_61 : decode cX3_nameNow 61 = .ok (.invokevirtual 323, 3) := dk_182 1 67 (dk_at dksX3_nameNow_2 15 rfl rfl)
theorem dX3_nameNow_64 : decode cX3_nameNow 64 = .ok (.ifCond .eq 5, 3) := dk_153 0 5 (dk_at dksX3_nameNow_2 18 rfl rfl)
theorem dX3_nameNow_67 : decode cX3_nameNow 67 = .ok (.iconst 3, 1) := dk_6 (dk_at dksX3_nameNow_2 21 rfl rfl)
theorem dX3_nameNow_68 : decode cX3_nameNow 68 = .ok (.ireturn, 1) := dk_172 (dk_at dksX3_nameNow_2 22 rfl rfl)
theorem dX3_nameNow_69 : decode cX3_nameNow 69 = .ok (.aload_n 0, 1) := dk_42 (dk_at dksX3_nameNow_2 23 rfl rfl)
theorem dX3_nameNow_70 : decode cX3_nameNow 70 = .ok (.iconst 2, 1) := dk_5 (dk_at dksX3_nameNow_3 0 rfl rfl)
theorem dX3_nameNow_71 : decode cX3_nameNow 71 = .ok (.bipush 111, 2) := dk_16 111 (dk_at dksX3_nameNow_3 1 rfl rfl)
theorem dX3_nameNow_73 : decode cX3_nameNow 73 = .ok (.bipush 114, 2) := dk_16 114 (dk_at dksX3_nameNow_3 3 rfl rfl)
theorem dX3_nameNow_75 : decode cX3_nameNow 75 = .ok (.iconst 0, 1) := dk_3 (dk_at dksX3_nameNow_3 5 rfl rfl)
theorem dX3_nameNow_76 : decode cX3_nameNow 76 = .ok (.iconst 0, 1) := dk_3 (dk_at dksX3_nameNow_3 6 rfl rfl)
theorem dX3_nameNow_77 : decode cX3_nameNow 77 = .ok (.invokevirtual 323, 3) := dk_182 1 67 (dk_at dksX3_nameNow_3 7 rfl rfl)
theorem dX3_nameNow_80 : decode cX3_nameNow 80 = .ok (.ifCond .eq 5, 3) := dk_153 0 5 (dk_at dksX3_nameNow_3 10 rfl rfl)
theorem dX3_nameNow_83 : decode cX3_nameNow 83 = .ok (.iconst 4, 1) := dk_7 (dk_at dksX3_nameNow_3 13 rfl rfl)
theorem dX3_nameNow_84 : decode cX3_nameNow 84 = .ok (.ireturn, 1) := dk_172 (dk_at dksX3_nameNow_3 14 rfl rfl)
theorem dX3_nameNow_85 : decode cX3_nameNow 85 = .ok (.aload_n 0, 1) := dk_42 (dk_at dksX3_nameNow_3 15 rfl rfl)
theorem dX3_nameNow_86 : decode cX3_nameNow 86 = .ok (.iconst 3, 1) := dk_6 (dk_at dksX3_nameNow_3 16 rfl rfl)
theorem dX3_nameNow_87 : decode cX3_nameNow 87 = .ok (.bipush 97, 2) := dk_16 97 (dk_at dksX3_nameNow_3 17 rfl rfl)
theorem dX3_nameNow_89 : decode cX3_nameNow 89 = .ok (.bipush 110, 2) := dk_16 110 (dk_at dksX3_nameNow_3 19 rfl rfl)
theorem dX3_nameNow_91 : decode cX3_nameNow 91 = .ok (.bipush 100, 2) := dk_16 100 (dk_at dksX3_nameNow_3 21 rfl rfl)
theorem dX3_nameNow_93 : decode cX3_nameNow 93 = .ok (.iconst 0, 1) := dk_3 (dk_at dksX3_nameNow_3 23 rfl rfl)
theorem dX3_nameNow_94 : decode cX3_nameNow 94 = .ok (.invokevirtual 323, 3) := dk_182 1 67 (dk_at dksX3_nameNow_4 0 rfl rfl)
theorem dX3_nameNow_97 : decode cX3_nameNow 97 = .ok (.ifCond .eq 5, 3) := dk_153 0 5 (dk_at dksX3_nameNow_4 3 rfl rfl)
theorem dX3_nameNow_100 : decode cX3_nameNow 100 = .ok (.iconst 5, 1) := dk_8 (dk_at dksX3_nameNow_4 6 rfl rfl)
theorem dX3_nameNow_101 : decode cX3_nameNow 101 = .ok (.ireturn, 1) := dk_172 (dk_at dksX3_nameNow_4 7 rfl rfl)
theorem dX3_nameNow_102 : decode cX3_nameNow 102 = .ok (.aload_n 0, 1) := dk_42 (dk_at dksX3_nameNow_4 8 rfl rfl)
theorem dX3_nameNow_103 : decode cX3_nameNow 103 = .ok (.iconst 3, 1) := dk_6 (dk_at dksX3_nameNow_4 9 rfl rfl)
theorem dX3_nameNow_104 : decode cX3_nameNow 104 = .ok (.bipush 110, 2) := dk_16 110 (dk_at dksX3_nameNow_4 10 rfl rfl)
theorem dX3_nameNow_106 : decode cX3_nameNow 106 = .ok (.bipush 111, 2) := dk_16 111 (dk_at dksX3_nameNow_4 12 rfl rfl)
theorem dX3_nameNow_108 : decode cX3_nameNow 108 = .ok (.bipush 116, 2) := dk_16 116 (dk_at dksX3_nameNow_4 14 rfl rfl)
theorem dX3_nameNow_110 : decode cX3_nameNow 110 = .ok (.iconst 0, 1) := dk_3 (dk_at dksX3_nameNow_4 16 rfl rfl)
theorem dX3_nameNow_111 : decode cX3_nameNow 111 = .ok (.invokevirtual 323, 3) := dk_182 1 67 (dk_at dksX3_nameNow_4 17 rfl rfl)
theorem dX3_nameNow_114 : decode cX3_nameNow 114 = .ok (.ifCond .eq 6, 3) := dk_153 0 6 (dk_at dksX3_nameNow_4 20 rfl rfl)
theorem dX3_nameNow_117 : decode cX3_nameNow 117 = .ok (.bipush 6, 2) := dk_16 6 (dk_at dksX3_nameNow_5 0 rfl rfl)
theorem dX3_nameNow_119 : decode cX3_nameNow 119 = .ok (.ireturn, 1) := dk_172 (dk_at dksX3_nameNow_5 2 rfl rfl)
theorem dX3_nameNow_120 : decode cX3_nameNow 120 = .ok (.aload_n 0, 1) := dk_42 (dk_at dksX3_nameNow_5 3 rfl rfl)
theorem dX3_nameNow_121 : decode cX3_nameNow 121 = .ok (.invokevirtual 327, 3) := dk_182 1 71 (dk_at dksX3_nameNow_5 4 rfl rfl)
theorem dX3_nameNow_124 : decode cX3_nameNow 124 = .ok (.ireturn, 1) := dk_172 (dk_at dksX3_nameNow_5 7 rfl rfl)
abbrev cX3_is : ByteArray := prog_26_method_44_code
def yX3_is : MethodName := ⟨RX3, "is", "(IIIII)Z"⟩
def dkwX3_is_3 : List UInt8 := [96, 182, 1, 64, 21, 5, 160, 0, 7, 4, 167, 0, 4, 3, 172]
abbrev dktX3_is_3 : List UInt8 := dkwX3_is_3 ++ []
def dkwX3_is_2 : List UInt8 := [180, 1, 55, 5, 96, 182, 1, 64, 21, 4, 160, 0, 27, 27, 7, 161, 0, 18, 42, 42, 180, 1, 55, 6]
abbrev dktX3_is_2 : List UInt8 := dkwX3_is_2 ++ dktX3_is_3
def dkwX3_is_1 : List UInt8 := [160, 0, 61, 42, 42, 180, 1, 55, 4, 96, 182, 1, 64, 29, 160, 0, 47, 27, 6, 161, 0, 18, 42, 42]
abbrev dktX3_is_1 : List UInt8 := dkwX3_is_1 ++ dktX3_is_2
def dkwX3_is_0 : List UInt8 := [42, 180, 1, 61, 42, 180, 1, 55, 100, 27, 160, 0, 73, 42, 42, 180, 1, 55, 182, 1, 64, 28]
abbrev dktX3_is_0 : List UInt8 := dkwX3_is_0 ++ dktX3_is_1
theorem dksX3_is_0 : cX3_is.data.toList.drop 0 = dktX3_is_0 := by decide +kernel
theorem dksX3_is_1 : cX3_is.data.toList.drop 22 = dktX3_is_1 := dk_seg dksX3_is_0 22 rfl rfl
theorem dksX3_is_2 : cX3_is.data.toList.drop 46 = dktX3_is_2 := dk_seg dksX3_is_1 24 rfl rfl
theorem dksX3_is_3 : cX3_is.data.toList.drop 70 = dktX3_is_3 := dk_seg dksX3_is_2 24 rfl rfl
theorem dX3_is_0 : decode cX3_is 0 = .ok (.aload_n 0, 1) := dk_42 (dk_at dksX3_is_0 0 rfl rfl)
theorem dX3_is_1 : decode cX3_is 1 = .ok (.getfield 317, 3) := dk_180 1 61 (dk_at dksX3_is_0 1 rfl rfl)
theorem dX3_is_4 : decode cX3_is 4 = .ok (.aload_n 0, 1) := dk_42 (dk_at dksX3_is_0 4 rfl rfl)
theorem dX3_is_5 : decode cX3_is 5 = .ok (.getfield 311, 3) := dk_180 1 55 (dk_at dksX3_is_0 5 rfl rfl)
theorem dX3_is_8 : decode cX3_is 8 = .ok (.isub, 1) := dk_100 (dk_at dksX3_is_0 8 rfl rfl)
theorem dX3_is_9 : decode cX3_is 9 = .ok (.iload_n 1, 1) := dk_27 (dk_at dksX3_is_0 9 rfl rfl)
theorem dX3_is_10 : decode cX3_is 10 = .ok (.if_icmp .ne 73, 3) := dk_160 0 73 (dk_at dksX3_is_0 10 rfl rfl)
theorem dX3_is_13 : decode cX3_is 13 = .ok (.aload_n 0, 1) := dk_42 (dk_at dksX3_is_0 13 rfl rfl)
theorem dX3_is_14 : decode cX3_is 14 = .ok (.aload_n 0, 1) := dk_42 (dk_at dksX3_is_0 14 rfl rfl)
theorem dX3_is_15 : decode cX3_is 15 = .ok (.getfield 311, 3) := dk_180 1 55 (dk_at dksX3_is_0 15 rfl rfl)
theorem dX3_is_18 : decode cX3_is 18 = .ok (.invokevirtual 320, 3) := dk_182 1 64 (dk_at dksX3_is_0 18 rfl rfl)
theorem dX3_is_21 : decode cX3_is 21 = .ok (.iload_n 2, 1) := dk_28 (dk_at dksX3_is_0 21 rfl rfl)
theorem dX3_is_22 : decode cX3_is 22 = .ok (.if_icmp .ne 61, 3) := dk_160 0 61 (dk_at dksX3_is_1 0 rfl rfl)
theorem dX3_is_25 : decode cX3_is 25 = .ok (.aload_n 0, 1) := dk_42 (dk_at dksX3_is_1 3 rfl rfl)
theorem dX3_is_26 : decode cX3_is 26 = .ok (.aload_n 0, 1) := dk_42 (dk_at dksX3_is_1 4 rfl rfl)
theorem dX3_is_27 : decode cX3_is 27 = .ok (.getfield 311, 3) := dk_180 1 55 (dk_at dksX3_is_1 5 rfl rfl)
theorem dX3_is_30 : decode cX3_is 30 = .ok (.iconst 1, 1) := dk_4 (dk_at dksX3_is_1 8 rfl rfl)
theorem dX3_is_31 : decode cX3_is 31 = .ok (.iadd, 1) := dk_96 (dk_at dksX3_is_1 9 rfl rfl)
theorem dX3_is_32 : decode cX3_is 32 = .ok (.invokevirtual 320, 3) := dk_182 1 64 (dk_at dksX3_is_1 10 rfl rfl)
theorem dX3_is_35 : decode cX3_is 35 = .ok (.iload_n 3, 1) := dk_29 (dk_at dksX3_is_1 13 rfl rfl)
theorem dX3_is_36 : decode cX3_is 36 = .ok (.if_icmp .ne 47, 3) := dk_160 0 47 (dk_at dksX3_is_1 14 rfl rfl)
theorem dX3_is_39 : decode cX3_is 39 = .ok (.iload_n 1, 1) := dk_27 (dk_at dksX3_is_1 17 rfl rfl)
theorem dX3_is_40 : decode cX3_is 40 = .ok (.iconst 3, 1) := dk_6 (dk_at dksX3_is_1 18 rfl rfl)
theorem dX3_is_41 : decode cX3_is 41 = .ok (.if_icmp .lt 18, 3) := dk_161 0 18 (dk_at dksX3_is_1 19 rfl rfl)
theorem dX3_is_44 : decode cX3_is 44 = .ok (.aload_n 0, 1) := dk_42 (dk_at dksX3_is_1 22 rfl rfl)
theorem dX3_is_45 : decode cX3_is 45 = .ok (.aload_n 0, 1) := dk_42 (dk_at dksX3_is_1 23 rfl rfl)
theorem dX3_is_46 : decode cX3_is 46 = .ok (.getfield 311, 3) := dk_180 1 55 (dk_at dksX3_is_2 0 rfl rfl)
theorem dX3_is_49 : decode cX3_is 49 = .ok (.iconst 2, 1) := dk_5 (dk_at dksX3_is_2 3 rfl rfl)
theorem dX3_is_50 : decode cX3_is 50 = .ok (.iadd, 1) := dk_96 (dk_at dksX3_is_2 4 rfl rfl)
theorem dX3_is_51 : decode cX3_is 51 = .ok (.invokevirtual 320, 3) := dk_182 1 64 (dk_at dksX3_is_2 5 rfl rfl)
theorem dX3_is_54 : decode cX3_is 54 = .ok (.iload 4, 2) := dk_21 4 (dk_at dksX3_is_2 8 rfl rfl)
theorem dX3_is_56 : decode cX3_is 56 = .ok (.if_icmp .ne 27, 3) := dk_160 0 27 (dk_at dksX3_is_2 10 rfl rfl)
theorem dX3_is_59 : decode cX3_is 59 = .ok (.iload_n 1, 1) := dk_27 (dk_at dksX3_is_2 13 rfl rfl)
theorem dX3_is_60 : decode cX3_is 60 = .ok (.iconst 4, 1) := dk_7 (dk_at dksX3_is_2 14 rfl rfl)
theorem dX3_is_61 : decode cX3_is 61 = .ok (.if_icmp .lt 18, 3) := dk_161 0 18 (dk_at dksX3_is_2 15 rfl rfl)
theorem dX3_is_64 : decode cX3_is 64 = .ok (.aload_n 0, 1) := dk_42 (dk_at dksX3_is_2 18 rfl rfl)
theorem dX3_is_65 : decode cX3_is 65 = .ok (.aload_n 0, 1) := dk_42 (dk_at dksX3_is_2 19 rfl rfl)
theorem dX3_is_66 : decode cX3_is 66 = .ok (.getfield 311, 3) := dk_180 1 55 (dk_at dksX3_is_2 20 rfl rfl)
theorem dX3_is_69 : decode cX3_is 69 = .ok (.iconst 3, 1) := dk_6 (dk_at dksX3_is_2 23 rfl rfl)
theorem dX3_is_70 : decode cX3_is 70 = .ok (.iadd, 1) := dk_96 (dk_at dksX3_is_3 0 rfl rfl)
theorem dX3_is_71 : decode cX3_is 71 = .ok (.invokevirtual 320, 3) := dk_182 1 64 (dk_at dksX3_is_3 1 rfl rfl)
theorem dX3_is_74 : decode cX3_is 74 = .ok (.iload 5, 2) := dk_21 5 (dk_at dksX3_is_3 4 rfl rfl)
theorem dX3_is_76 : decode cX3_is 76 = .ok (.if_icmp .ne 7, 3) := dk_160 0 7 (dk_at dksX3_is_3 6 rfl rfl)
theorem dX3_is_79 : decode cX3_is 79 = .ok (.iconst 1, 1) := dk_4 (dk_at dksX3_is_3 9 rfl rfl)
theorem dX3_is_80 : decode cX3_is 80 = .ok (.goto 4, 3) := dk_167 0 4 (dk_at dksX3_is_3 10 rfl rfl)
theorem dX3_is_83 : decode cX3_is 83 = .ok (.iconst 0, 1) := dk_3 (dk_at dksX3_is_3 13 rfl rfl)
theorem dX3_is_84 : decode cX3_is 84 = .ok (.ireturn, 1) := dk_172 (dk_at dksX3_is_3 14 rfl rfl)
abbrev cX3_variableNow : ByteArray := prog_26_method_47_code
def yX3_variableNow : MethodName := ⟨RX3, "variableNow", "()I"⟩
def dkwX3_variableNow_10 : List UInt8 := [182, 1, 67, 153, 0, 8, 16, 18, 167, 0, 5, 16, 252, 172]
abbrev dktX3_variableNow_10 : List UInt8 := dkwX3_variableNow_10 ++ []
def dkwX3_variableNow_9 : List UInt8 := [7, 16, 116, 16, 104, 182, 1, 75, 153, 0, 6, 16, 17, 172, 42, 6, 16, 100, 16, 97, 16, 121, 3]
abbrev dktX3_variableNow_9 : List UInt8 := dkwX3_variableNow_9 ++ dktX3_variableNow_10
def dkwX3_variableNow_8 : List UInt8 := [153, 0, 6, 16, 16, 172, 42, 16, 6, 16, 108, 16, 101, 16, 110, 16, 103, 182, 1, 67, 153, 0, 18, 42]
abbrev dktX3_variableNow_8 : List UInt8 := dkwX3_variableNow_8 ++ dktX3_variableNow_9
def dkwX3_variableNow_7 : List UInt8 := [182, 1, 75, 153, 0, 6, 16, 15, 172, 42, 7, 16, 104, 16, 97, 16, 114, 16, 100, 182, 1, 67]
abbrev dktX3_variableNow_7 : List UInt8 := dkwX3_variableNow_7 ++ dktX3_variableNow_8
def dkwX3_variableNow_6 : List UInt8 := [42, 16, 6, 16, 112, 16, 101, 16, 111, 16, 112, 182, 1, 67, 153, 0, 18, 42, 7, 16, 108, 16, 101]
abbrev dktX3_variableNow_6 : List UInt8 := dkwX3_variableNow_6 ++ dktX3_variableNow_7
def dkwX3_variableNow_5 : List UInt8 := [182, 1, 67, 153, 0, 21, 42, 42, 180, 1, 55, 7, 96, 182, 1, 64, 16, 101, 160, 0, 6, 16, 14, 172]
abbrev dktX3_variableNow_5 : List UInt8 := dkwX3_variableNow_5 ++ dktX3_variableNow_6
def dkwX3_variableNow_4 : List UInt8 := [16, 6, 96, 182, 1, 64, 16, 114, 160, 0, 6, 16, 13, 172, 42, 8, 16, 103, 16, 114, 16, 97, 16, 100]
abbrev dktX3_variableNow_4 : List UInt8 := dkwX3_variableNow_4 ++ dktX3_variableNow_5
def dkwX3_variableNow_3 : List UInt8 := [182, 1, 67, 153, 0, 34, 42, 7, 16, 116, 16, 101, 182, 1, 75, 153, 0, 22, 42, 42, 180, 1, 55]
abbrev dktX3_variableNow_3 : List UInt8 := dkwX3_variableNow_3 ++ dktX3_variableNow_4
def dkwX3_variableNow_2 : List UInt8 := [16, 119, 182, 1, 67, 153, 0, 6, 16, 12, 172, 42, 16, 7, 16, 113, 16, 117, 16, 97, 16, 114]
abbrev dktX3_variableNow_2 : List UInt8 := dkwX3_variableNow_2 ++ dktX3_variableNow_3
def dkwX3_variableNow_1 : List UInt8 := [16, 97, 16, 105, 16, 110, 182, 1, 67, 153, 0, 6, 16, 11, 172, 42, 7, 16, 115, 16, 110, 16, 111]
abbrev dktX3_variableNow_1 : List UInt8 := dkwX3_variableNow_1 ++ dktX3_variableNow_2
def dkwX3_variableNow_0 : List UInt8 := [42, 7, 16, 119, 16, 105, 16, 110, 16, 100, 182, 1, 67, 153, 0, 6, 16, 10, 172, 42, 7, 16, 114]
abbrev dktX3_variableNow_0 : List UInt8 := dkwX3_variableNow_0 ++ dktX3_variableNow_1
theorem dksX3_variableNow_0 : cX3_variableNow.data.toList.drop 0 = dktX3_variableNow_0 := by decide +kernel
theorem dksX3_variableNow_1 : cX3_variableNow.data.toList.drop 23 = dktX3_variableNow_1 := dk_seg dksX3_variableNow_0 23 rfl rfl
theorem dksX3_variableNow_2 : cX3_variableNow.data.toList.drop 46 = dktX3_variableNow_2 := dk_seg dksX3_variableNow_1 23 rfl rfl
theorem dksX3_variableNow_3 : cX3_variableNow.data.toList.drop 68 = dktX3_variableNow_3 := dk_seg dksX3_variableNow_2 22 rfl rfl
theorem dksX3_variableNow_4 : cX3_variableNow.data.toList.drop 91 = dktX3_variableNow_4 := dk_seg dksX3_variableNow_3 23 rfl rfl
theorem dksX3_variableNow_5 : cX3_variableNow.data.toList.drop 115 = dktX3_variableNow_5 := dk_seg dksX3_variableNow_4 24 rfl rfl
theorem dksX3_variableNow_6 : cX3_variableNow.data.toList.drop 139 = dktX3_variableNow_6 := dk_seg dksX3_variableNow_5 24 rfl rfl
theorem dksX3_variableNow_7 : cX3_variableNow.data.toList.drop 162 = dktX3_variableNow_7 := dk_seg dksX3_variableNow_6 23 rfl rfl
theorem dksX3_variableNow_8 : cX3_variableNow.data.toList.drop 184 = dktX3_variableNow_8 := dk_seg dksX3_variableNow_7 22 rfl rfl
theorem dksX3_variableNow_9 : cX3_variableNow.data.toList.drop 208 = dktX3_variableNow_9 := dk_seg dksX3_variableNow_8 24 rfl rfl
theorem dksX3_variableNow_10 : cX3_variableNow.data.toList.drop 231 = dktX3_variableNow_10 := dk_seg dksX3_variableNow_9 23 rfl rfl
theorem dX3_variableNow_0 : decode cX3_variableNow 0 = .ok (.aload_n 0, 1) := dk_42 (dk_at dksX3_variableNow_0 0 rfl rfl)
theorem dX3_variableNow_1 : decode cX3_variableNow 1 = .ok (.iconst 4, 1) := dk_7 (dk_at dksX3_variableNow_0 1 rfl rfl)
theorem dX3_variableNow_2 : decode cX3_variableNow 2 = .ok (.bipush 119, 2) := dk_16 119 (dk_at dksX3_variableNow_0 2 rfl rfl)
theorem dX3_variableNow_4 : decode cX3_variableNow 4 = .ok (.bipush 105, 2) := dk_16 105 (dk_at dksX3_variableNow_0 4 rfl rfl)
theorem dX3_variableNow_6 : decode cX3_variableNow 6 = .ok (.bipush 110, 2) := dk_16 110 (dk_at dksX3_variableNow_0 6 rfl rfl)
theorem dX3_variableNow_8 : decode cX3_variableNow 8 = .ok (.bipush 100, 2) := dk_16 100 (dk_at dksX3_variableNow_0 8 rfl rfl)
theorem dX3_variableNow_10 : decode cX3_variableNow 10 = .ok (.invokevirtual 323, 3) := dk_182 1 67 (dk_at dksX3_variableNow_0 10 rfl rfl)
theorem dX3_variableNow_13 : decode cX3_variableNow 13 = .ok (.ifCond .eq 6, 3) := dk_153 0 6 (dk_at dksX3_variableNow_0 13 rfl rfl)
theorem dX3_variableNow_16 : decode cX3_variableNow 16 = .ok (.bipush 10, 2) := dk_16 10 (dk_at dksX3_variableNow_0 16 rfl rfl)
theorem dX3_variableNow_18 : decode cX3_variableNow 18 = .ok (.ireturn, 1) := dk_172 (dk_at dksX3_variableNow_0 18 rfl rfl)
theorem dX3_variableNow_19 : decode cX3_variableNow 19 = .ok (.aload_n 0, 1) := dk_42 (dk_at dksX3_variableNow_0 19 rfl rfl)
theorem dX3_variableNow_20 : decode cX3_variableNow 20 = .ok (.iconst 4, 1) := dk_7 (dk_at dksX3_variableNow_0 20 rfl rfl)
theorem dX3_variableNow_21 : decode cX3_variableNow 21 = .ok (.bipush 114, 2) := dk_16 114 (dk_at dksX3_variableNow_0 21 rfl rfl)
theorem dX3_variableNow_23 : decode cX3_variableNow 23 = .ok (.bipush 97, 2) := dk_16 97 (dk_at dksX3_variableNow_1 0 rfl rfl)
theorem dX3_variableNow_25 : decode cX3_variableNow 25 = .ok (.bipush 105, 2) := dk_16 105 (dk_at dksX3_variableNow_1 2 rfl rfl)
theorem dX3_variableNow_27 : decode cX3_variableNow 27 = .ok (.bipush 110, 2) := dk_16 110 (dk_at dksX3_variableNow_1 4 rfl rfl)
theorem dX3_variableNow_29 : decode cX3_variableNow 29 = .ok (.invokevirtual 323, 3) := dk_182 1 67 (dk_at dksX3_variableNow_1 6 rfl rfl)
theorem dX3_variableNow_32 : decode cX3_variableNow 32 = .ok (.ifCond .eq 6, 3) := dk_153 0 6 (dk_at dksX3_variableNow_1 9 rfl rfl)
theorem dX3_variableNow_35 : decode cX3_variableNow 35 = .ok (.bipush 11, 2) := dk_16 11 (dk_at dksX3_variableNow_1 12 rfl rfl)
theorem dX3_variableNow_37 : decode cX3_variableNow 37 = .ok (.ireturn, 1) := dk_172 (dk_at dksX3_variableNow_1 14 rfl rfl)
theorem dX3_variableNow_38 : decode cX3_variableNow 38 = .ok (.aload_n 0, 1) := dk_42 (dk_at dksX3_variableNow_1 15 rfl rfl)
theorem dX3_variableNow_39 : decode cX3_variableNow 39 = .ok (.iconst 4, 1) := dk_7 (dk_at dksX3_variableNow_1 16 rfl rfl)
theorem dX3_variableNow_40 : decode cX3_variableNow 40 = .ok (.bipush 115, 2) := dk_16 115 (dk_at dksX3_variableNow_1 17 rfl rfl)
theorem dX3_variableNow_42 : decode cX3_variableNow 42 = .ok (.bipush 110, 2) := dk_16 110 (dk_at dksX3_variableNow_1 19 rfl rfl)
theorem dX3_variableNow_44 : decode cX3_variableNow 44 = .ok (.bipush 111, 2) := dk_16 111 (dk_at dksX3_variableNow_1 21 rfl rfl)
theorem dX3_variableNow_46 : decode cX3_variableNow 46 = .ok (.bipush 119, 2) := dk_16 119 (dk_at dksX3_variableNow_2 0 rfl rfl)
theorem dX3_variableNow_48 : decode cX3_variableNow 48 = .ok (.invokevirtual 323, 3) := dk_182 1 67 (dk_at dksX3_variableNow_2 2 rfl rfl)
theorem dX3_variableNow_51 : decode cX3_variableNow 51 = .ok (.ifCond .eq 6, 3) := dk_153 0 6 (dk_at dksX3_variableNow_2 5 rfl rfl)
theorem dX3_variableNow_54 : decode cX3_variableNow 54 = .ok (.bipush 12, 2) := dk_16 12 (dk_at dksX3_variableNow_2 8 rfl rfl)
theorem dX3_variableNow_56 : decode cX3_variableNow 56 = .ok (.ireturn, 1) := dk_172 (dk_at dksX3_variableNow_2 10 rfl rfl)
theorem dX3_variableNow_57 : decode cX3_variableNow 57 = .ok (.aload_n 0, 1) := dk_42 (dk_at dksX3_variableNow_2 11 rfl rfl)
theorem dX3_variableNow_58 : decode cX3_variableNow 58 = .ok (.bipush 7, 2) := dk_16 7 (dk_at dksX3_variableNow_2 12 rfl rfl)
theorem dX3_variableNow_60 : decode cX3_variableNow 60 = .ok (.bipush 113, 2) := dk_16 113 (dk_at dksX3_variableNow_2 14 rfl rfl)
theorem dX3_variableNow_62 : decode cX3_variableNow 62 = .ok (.bipush 117, 2) := dk_16 117 (dk_at dksX3_variableNow_2 16 rfl rfl)
theorem dX3_variableNow_64 : decode cX3_variableNow 64 = .ok (.bipush 97, 2) := dk_16 97 (dk_at dksX3_variableNow_2 18 rfl rfl)
theorem dX3_variableNow_66 : decode cX3_variableNow 66 = .ok (.bipush 114, 2) := dk_16 114 (dk_at dksX3_variableNow_2 20 rfl rfl)
theorem dX3_variableNow_68 : decode cX3_variableNow 68 = .ok (.invokevirtual 323, 3) := dk_182 1 67 (dk_at dksX3_variableNow_3 0 rfl rfl)
theorem dX3_variableNow_71 : decode cX3_variableNow 71 = .ok (.ifCond .eq 34, 3) := dk_153 0 34 (dk_at dksX3_variableNow_3 3 rfl rfl)
theorem dX3_variableNow_74 : decode cX3_variableNow 74 = .ok (.aload_n 0, 1) := dk_42 (dk_at dksX3_variableNow_3 6 rfl rfl)
theorem dX3_variableNow_75 : decode cX3_variableNow 75 = .ok (.iconst 4, 1) := dk_7 (dk_at dksX3_variableNow_3 7 rfl rfl)
theorem dX3_variableNow_76 : decode cX3_variableNow 76 = .ok (.bipush 116, 2) := dk_16 116 (dk_at dksX3_variableNow_3 8 rfl rfl)
theorem dX3_variableNow_78 : decode cX3_variableNow 78 = .ok (.bipush 101, 2) := dk_16 101 (dk_at dksX3_variableNow_3 10 rfl rfl)
theorem dX3_variableNow_80 : decode cX3_variableNow 80 = .ok (.invokevirtual 331, 3) := dk_182 1 75 (dk_at dksX3_variableNow_3 12 rfl rfl)
theorem dX3_variableNow_83 : decode cX3_variableNow 83 = .ok (.ifCond .eq 22, 3) := dk_153 0 22 (dk_at dksX3_variableNow_3 15 rfl rfl)
theorem dX3_variableNow_86 : decode cX3_variableNow 86 = .ok (.aload_n 0, 1) := dk_42 (dk_at dksX3_variableNow_3 18 rfl rfl)
theorem dX3_variableNow_87 : decode cX3_variableNow 87 = .ok (.aload_n 0, 1) := dk_42 (dk_at dksX3_variableNow_3 19 rfl rfl)
theorem dX3_variableNow_88 : decode cX3_variableNow 88 = .ok (.getfield 311, 3) := dk_180 1 55 (dk_at dksX3_variableNow_3 20 rfl rfl)
theorem dX3_variableNow_91 : decode cX3_variableNow 91 = .ok (.bipush 6, 2) := dk_16 6 (dk_at dksX3_variableNow_4 0 rfl rfl)
theorem dX3_variableNow_93 : decode cX3_variableNow 93 = .ok (.iadd, 1) := dk_96 (dk_at dksX3_variableNow_4 2 rfl rfl)
theorem dX3_variableNow_94 : decode cX3_variableNow 94 = .ok (.invokevirtual 320, 3) := dk_182 1 64 (dk_at dksX3_variableNow_4 3 rfl rfl)
theorem dX3_variableNow_97 : decode cX3_variableNow 97 = .ok (.bipush 114, 2) := dk_16 114 (dk_at dksX3_variableNow_4 6 rfl rfl)
theorem dX3_variableNow_99 : decode cX3_variableNow 99 = .ok (.if_icmp .ne 6, 3) := dk_160 0 6 (dk_at dksX3_variableNow_4 8 rfl rfl)
theorem dX3_variableNow_102 : decode cX3_variableNow 102 = .ok (.bipush 13, 2) := dk_16 13 (dk_at dksX3_variableNow_4 11 rfl rfl)
theorem dX3_variableNow_104 : decode cX3_variableNow 104 = .ok (.ireturn, 1) := dk_172 (dk_at dksX3_variableNow_4 13 rfl rfl)
theorem dX3_variableNow_105 : decode cX3_variableNow 105 = .ok (.aload_n 0, 1) := dk_42 (dk_at dksX3_variableNow_4 14 rfl rfl)
theorem dX3_variableNow_106 : decode cX3_variableNow 106 = .ok (.iconst 5, 1) := dk_8 (dk_at dksX3_variableNow_4 15 rfl rfl)
theorem dX3_variableNow_107 : decode cX3_variableNow 107 = .ok (.bipush 103, 2) := dk_16 103 (dk_at dksX3_variableNow_4 16 rfl rfl)
theorem dX3_variableNow_109 : decode cX3_variableNow 109 = .ok (.bipush 114, 2) := dk_16 114 (dk_at dksX3_variableNow_4 18 rfl rfl)
theorem dX3_variableNow_111 : decode cX3_variableNow 111 = .ok (.bipush 97, 2) := dk_16 97 (dk_at dksX3_variableNow_4 20 rfl rfl)
theorem dX3_variableNow_113 : decode cX3_variableNow 113 = .ok (.bipush 100, 2) := dk_16 100 (dk_at dksX3_variableNow_4 22 rfl rfl)
theorem dX3_variableNow_115 : decode cX3_variableNow 115 = .ok (.invokevirtual 323, 3) := dk_182 1 67 (dk_at dksX3_variableNow_5 0 rfl rfl)
theorem dX3_variableNow_118 : decode cX3_variableNow 118 = .ok (.ifCond .eq 21, 3) := dk_153 0 21 (dk_at dksX3_variableNow_5 3 rfl rfl)
theorem dX3_variableNow_121 : decode cX3_variableNow 121 = .ok (.aload_n 0, 1) := dk_42 (dk_at dksX3_variableNow_5 6 rfl rfl)
theorem dX3_variableNow_122 : decode cX3_variableNow 122 = .ok (.aload_n 0, 1) := dk_42 (dk_at dksX3_variableNow_5 7 rfl rfl)
theorem dX3_variableNow_123 : decode cX3_variableNow 123 = .ok (.getfield 311, 3) := dk_180 1 55 (dk_at dksX3_variableNow_5 8 rfl rfl)
theorem dX3_variableNow_126 : decode cX3_variableNow 126 = .ok (.iconst 4, 1) := dk_7 (dk_at dksX3_variableNow_5 11 rfl rfl)
theorem dX3_variableNow_127 : decode cX3_variableNow 127 = .ok (.iadd, 1) := dk_96 (dk_at dksX3_variableNow_5 12 rfl rfl)
theorem dX3_variableNow_128 : decode cX3_variableNow 128 = .ok (.invokevirtual 320, 3) := dk_182 1 64 (dk_at dksX3_variableNow_5 13 rfl rfl)
theorem dX3_variableNow_131 : decode cX3_variableNow 131 = .ok (.bipush 101, 2) := dk_16 101 (dk_at dksX3_variableNow_5 16 rfl rfl)
theorem dX3_variableNow_133 : decode cX3_variableNow 133 = .ok (.if_icmp .ne 6, 3) := dk_160 0 6 (dk_at dksX3_variableNow_5 18 rfl rfl)
theorem dX3_variableNow_136 : decode cX3_variableNow 136 = .ok (.bipush 14, 2) := dk_16 14 (dk_at dksX3_variableNow_5 21 rfl rfl)
theorem dX3_variableNow_138 : decode cX3_variableNow 138 = .ok (.ireturn, 1) := dk_172 (dk_at dksX3_variableNow_5 23 rfl rfl)
theorem dX3_variableNow_139 : decode cX3_variableNow 139 = .ok (.aload_n 0, 1) := dk_42 (dk_at dksX3_variableNow_6 0 rfl rfl)
theorem dX3_variableNow_140 : decode cX3_variableNow 140 = .ok (.bipush 6, 2) := dk_16 6 (dk_at dksX3_variableNow_6 1 rfl rfl)
theorem dX3_variableNow_142 : decode cX3_variableNow 142 = .ok (.bipush 112, 2) := dk_16 112 (dk_at dksX3_variableNow_6 3 rfl rfl)
theorem dX3_variableNow_144 : decode cX3_variableNow 144 = .ok (.bipush 101, 2) := dk_16 101 (dk_at dksX3_variableNow_6 5 rfl rfl)
theorem dX3_variableNow_146 : decode cX3_variableNow 146 = .ok (.bipush 111, 2) := dk_16 111 (dk_at dksX3_variableNow_6 7 rfl rfl)
theorem dX3_variableNow_148 : decode cX3_variableNow 148 = .ok (.bipush 112, 2) := dk_16 112 (dk_at dksX3_variableNow_6 9 rfl rfl)
theorem dX3_variableNow_150 : decode cX3_variableNow 150 = .ok (.invokevirtual 323, 3) := dk_182 1 67 (dk_at dksX3_variableNow_6 11 rfl rfl)
theorem dX3_variableNow_153 : decode cX3_variableNow 153 = .ok (.ifCond .eq 18, 3) := dk_153 0 18 (dk_at dksX3_variableNow_6 14 rfl rfl)
theorem dX3_variableNow_156 : decode cX3_variableNow 156 = .ok (.aload_n 0, 1) := dk_42 (dk_at dksX3_variableNow_6 17 rfl rfl)
theorem dX3_variableNow_157 : decode cX3_variableNow 157 = .ok (.iconst 4, 1) := dk_7 (dk_at dksX3_variableNow_6 18 rfl rfl)
theorem dX3_variableNow_158 : decode cX3_variableNow 158 = .ok (.bipush 108, 2) := dk_16 108 (dk_at dksX3_variableNow_6 19 rfl rfl)
theorem dX3_variableNow_160 : decode cX3_variableNow 160 = .ok (.bipush 101, 2) := dk_16 101 (dk_at dksX3_variableNow_6 21 rfl rfl)
theorem dX3_variableNow_162 : decode cX3_variableNow 162 = .ok (.invokevirtual 331, 3) := dk_182 1 75 (dk_at dksX3_variableNow_7 0 rfl rfl)
theorem dX3_variableNow_165 : decode cX3_variableNow 165 = .ok (.ifCond .eq 6, 3) := dk_153 0 6 (dk_at dksX3_variableNow_7 3 rfl rfl)
theorem dX3_variableNow_168 : decode cX3_variableNow 168 = .ok (.bipush 15, 2) := dk_16 15 (dk_at dksX3_variableNow_7 6 rfl rfl)
theorem dX3_variableNow_170 : decode cX3_variableNow 170 = .ok (.ireturn, 1) := dk_172 (dk_at dksX3_variableNow_7 8 rfl rfl)
theorem dX3_variableNow_171 : decode cX3_variableNow 171 = .ok (.aload_n 0, 1) := dk_42 (dk_at dksX3_variableNow_7 9 rfl rfl)
theorem dX3_variableNow_172 : decode cX3_variableNow 172 = .ok (.iconst 4, 1) := dk_7 (dk_at dksX3_variableNow_7 10 rfl rfl)
theorem dX3_variableNow_173 : decode cX3_variableNow 173 = .ok (.bipush 104, 2) := dk_16 104 (dk_at dksX3_variableNow_7 11 rfl rfl)
theorem dX3_variableNow_175 : decode cX3_variableNow 175 = .ok (.bipush 97, 2) := dk_16 97 (dk_at dksX3_variableNow_7 13 rfl rfl)
theorem dX3_variableNow_177 : decode cX3_variableNow 177 = .ok (.bipush 114, 2) := dk_16 114 (dk_at dksX3_variableNow_7 15 rfl rfl)
theorem dX3_variableNow_179 : decode cX3_variableNow 179 = .ok (.bipush 100, 2) := dk_16 100 (dk_at dksX3_variableNow_7 17 rfl rfl)
theorem dX3_variableNow_181 : decode cX3_variableNow 181 = .ok (.invokevirtual 323, 3) := dk_182 1 67 (dk_at dksX3_variableNow_7 19 rfl rfl)
theorem dX3_variableNow_184 : decode cX3_variableNow 184 = .ok (.ifCond .eq 6, 3) := dk_153 0 6 (dk_at dksX3_variableNow_8 0 rfl rfl)
theorem dX3_variableNow_187 : decode cX3_variableNow 187 = .ok (.bipush 16, 2) := dk_16 16 (dk_at dksX3_variableNow_8 3 rfl rfl)
theorem dX3_variableNow_189 : decode cX3_variableNow 189 = .ok (.ireturn, 1) := dk_172 (dk_at dksX3_variableNow_8 5 rfl rfl)
theorem dX3_variableNow_190 : decode cX3_variableNow 190 = .ok (.aload_n 0, 1) := dk_42 (dk_at dksX3_variableNow_8 6 rfl rfl)
theorem dX3_variableNow_191 : decode cX3_variableNow 191 = .ok (.bipush 6, 2) := dk_16 6 (dk_at dksX3_variableNow_8 7 rfl rfl)
theorem dX3_variableNow_193 : decode cX3_variableNow 193 = .ok (.bipush 108, 2) := dk_16 108 (dk_at dksX3_variableNow_8 9 rfl rfl)
theorem dX3_variableNow_195 : decode cX3_variableNow 195 = .ok (.bipush 101, 2) := dk_16 101 (dk_at dksX3_variableNow_8 11 rfl rfl)
theorem dX3_variableNow_197 : decode cX3_variableNow 197 = .ok (.bipush 110, 2) := dk_16 110 (dk_at dksX3_variableNow_8 13 rfl rfl)
theorem dX3_variableNow_199 : decode cX3_variableNow 199 = .ok (.bipush 103, 2) := dk_16 103 (dk_at dksX3_variableNow_8 15 rfl rfl)
theorem dX3_variableNow_201 : decode cX3_variableNow 201 = .ok (.invokevirtual 323, 3) := dk_182 1 67 (dk_at dksX3_variableNow_8 17 rfl rfl)
theorem dX3_variableNow_204 : decode cX3_variableNow 204 = .ok (.ifCond .eq 18, 3) := dk_153 0 18 (dk_at dksX3_variableNow_8 20 rfl rfl)
theorem dX3_variableNow_207 : decode cX3_variableNow 207 = .ok (.aload_n 0, 1) := dk_42 (dk_at dksX3_variableNow_8 23 rfl rfl)
theorem dX3_variableNow_208 : decode cX3_variableNow 208 = .ok (.iconst 4, 1) := dk_7 (dk_at dksX3_variableNow_9 0 rfl rfl)
theorem dX3_variableNow_209 : decode cX3_variableNow 209 = .ok (.bipush 116, 2) := dk_16 116 (dk_at dksX3_variableNow_9 1 rfl rfl)
theorem dX3_variableNow_211 : decode cX3_variableNow 211 = .ok (.bipush 104, 2) := dk_16 104 (dk_at dksX3_variableNow_9 3 rfl rfl)
theorem dX3_variableNow_213 : decode cX3_variableNow 213 = .ok (.invokevirtual 331, 3) := dk_182 1 75 (dk_at dksX3_variableNow_9 5 rfl rfl)
theorem dX3_variableNow_216 : decode cX3_variableNow 216 = .ok (.ifCond .eq 6, 3) := dk_153 0 6 (dk_at dksX3_variableNow_9 8 rfl rfl)
theorem dX3_variableNow_219 : decode cX3_variableNow 219 = .ok (.bipush 17, 2) := dk_16 17 (dk_at dksX3_variableNow_9 11 rfl rfl)
theorem dX3_variableNow_221 : decode cX3_variableNow 221 = .ok (.ireturn, 1) := dk_172 (dk_at dksX3_variableNow_9 13 rfl rfl)
theorem dX3_variableNow_222 : decode cX3_variableNow 222 = .ok (.aload_n 0, 1) := dk_42 (dk_at dksX3_variableNow_9 14 rfl rfl)
theorem dX3_variableNow_223 : decode cX3_variableNow 223 = .ok (.iconst 3, 1) := dk_6 (dk_at dksX3_variableNow_9 15 rfl rfl)
theorem dX3_variableNow_224 : decode cX3_variableNow 224 = .ok (.bipush 100, 2) := dk_16 100 (dk_at dksX3_variableNow_9 16 rfl rfl)
theorem dX3_variableNow_226 : decode cX3_variableNow 226 = .ok (.bipush 97, 2) := dk_16 97 (dk_at dksX3_variableNow_9 18 rfl rfl)
theorem dX3_variableNow_228 : decode cX3_variableNow 228 = .ok (.bipush 121, 2) := dk_16 121 (dk_at dksX3_variableNow_9 20 rfl rfl)
theorem dX3_variableNow_230 : decode cX3_variableNow 230 = .ok (.iconst 0, 1) := dk_3 (dk_at dksX3_variableNow_9 22 rfl rfl)
theorem dX3_variableNow_231 : decode cX3_variableNow 231 = .ok (.invokevirtual 323, 3) := dk_182 1 67 (dk_at dksX3_variableNow_10 0 rfl rfl)
theorem dX3_variableNow_234 : decode cX3_variableNow 234 = .ok (.ifCond .eq 8, 3) := dk_153 0 8 (dk_at dksX3_variableNow_10 3 rfl rfl)
theorem dX3_variableNow_237 : decode cX3_variableNow 237 = .ok (.bipush 18, 2) := dk_16 18 (dk_at dksX3_variableNow_10 6 rfl rfl)
theorem dX3_variableNow_239 : decode cX3_variableNow 239 = .ok (.goto 5, 3) := dk_167 0 5 (dk_at dksX3_variableNow_10 8 rfl rfl)
theorem dX3_variableNow_242 : decode cX3_variableNow 242 = .ok (.bipush (-4), 2) := dk_16 252 (dk_at dksX3_variableNow_10 11 rfl rfl)
theorem dX3_variableNow_244 : decode cX3_variableNow 244 = .ok (.ireturn, 1) := dk_172 (dk_at dksX3_variableNow_10 13 rfl rfl)
abbrev cX3_goesWith : ByteArray := prog_26_method_45_code
def yX3_goesWith : MethodName := ⟨RX3, "goesWith", "(III)Z"⟩
def dkwX3_goesWith_1 : List UInt8 := [182, 1, 64, 29, 160, 0, 7, 4, 167, 0, 4, 3, 172]
abbrev dktX3_goesWith_1 : List UInt8 := dkwX3_goesWith_1 ++ []
def dkwX3_goesWith_0 : List UInt8 := [42, 42, 180, 1, 55, 27, 96, 182, 1, 64, 28, 160, 0, 23, 42, 42, 180, 1, 55, 27, 96, 4, 96]
abbrev dktX3_goesWith_0 : List UInt8 := dkwX3_goesWith_0 ++ dktX3_goesWith_1
theorem dksX3_goesWith_0 : cX3_goesWith.data.toList.drop 0 = dktX3_goesWith_0 := by decide +kernel
theorem dksX3_goesWith_1 : cX3_goesWith.data.toList.drop 23 = dktX3_goesWith_1 := dk_seg dksX3_goesWith_0 23 rfl rfl
theorem dX3_goesWith_0 : decode cX3_goesWith 0 = .ok (.aload_n 0, 1) := dk_42 (dk_at dksX3_goesWith_0 0 rfl rfl)
theorem dX3_goesWith_1 : decode cX3_goesWith 1 = .ok (.aload_n 0, 1) := dk_42 (dk_at dksX3_goesWith_0 1 rfl rfl)
theorem dX3_goesWith_2 : decode cX3_goesWith 2 = .ok (.getfield 311, 3) := dk_180 1 55 (dk_at dksX3_goesWith_0 2 rfl rfl)
theorem dX3_goesWith_5 : decode cX3_goesWith 5 = .ok (.iload_n 1, 1) := dk_27 (dk_at dksX3_goesWith_0 5 rfl rfl)
theorem dX3_goesWith_6 : decode cX3_goesWith 6 = .ok (.iadd, 1) := dk_96 (dk_at dksX3_goesWith_0 6 rfl rfl)
theorem dX3_goesWith_7 : decode cX3_goesWith 7 = .ok (.invokevirtual 320, 3) := dk_182 1 64 (dk_at dksX3_goesWith_0 7 rfl rfl)
theorem dX3_goesWith_10 : decode cX3_goesWith 10 = .ok (.iload_n 2, 1) := dk_28 (dk_at dksX3_goesWith_0 10 rfl rfl)
theorem dX3_goesWith_11 : decode cX3_goesWith 11 = .ok (.if_icmp .ne 23, 3) := dk_160 0 23 (dk_at dksX3_goesWith_0 11 rfl rfl)
theorem dX3_goesWith_14 : decode cX3_goesWith 14 = .ok (.aload_n 0, 1) := dk_42 (dk_at dksX3_goesWith_0 14 rfl rfl)
theorem dX3_goesWith_15 : decode cX3_goesWith 15 = .ok (.aload_n 0, 1) := dk_42 (dk_at dksX3_goesWith_0 15 rfl rfl)
theorem dX3_goesWith_16 : decode cX3_goesWith 16 = .ok (.getfield 311, 3) := dk_180 1 55 (dk_at dksX3_goesWith_0 16 rfl rfl)
theorem dX3_goesWith_19 : decode cX3_goesWith 19 = .ok (.iload_n 1, 1) := dk_27 (dk_at dksX3_goesWith_0 19 rfl rfl)
theorem dX3_goesWith_20 : decode cX3_goesWith 20 = .ok (.iadd, 1) := dk_96 (dk_at dksX3_goesWith_0 20 rfl rfl)
theorem dX3_goesWith_21 : decode cX3_goesWith 21 = .ok (.iconst 1, 1) := dk_4 (dk_at dksX3_goesWith_0 21 rfl rfl)
theorem dX3_goesWith_22 : decode cX3_goesWith 22 = .ok (.iadd, 1) := dk_96 (dk_at dksX3_goesWith_0 22 rfl rfl)
theorem dX3_goesWith_23 : decode cX3_goesWith 23 = .ok (.invokevirtual 320, 3) := dk_182 1 64 (dk_at dksX3_goesWith_1 0 rfl rfl)
theorem dX3_goesWith_26 : decode cX3_goesWith 26 = .ok (.iload_n 3, 1) := dk_29 (dk_at dksX3_goesWith_1 3 rfl rfl)
theorem dX3_goesWith_27 : decode cX3_goesWith 27 = .ok (.if_icmp .ne 7, 3) := dk_160 0 7 (dk_at dksX3_goesWith_1 4 rfl rfl)
theorem dX3_goesWith_30 : decode cX3_goesWith 30 = .ok (.iconst 1, 1) := dk_4 (dk_at dksX3_goesWith_1 7 rfl rfl)
theorem dX3_goesWith_31 : decode cX3_goesWith 31 = .ok (.goto 4, 3) := dk_167 0 4 (dk_at dksX3_goesWith_1 8 rfl rfl)
theorem dX3_goesWith_34 : decode cX3_goesWith 34 = .ok (.iconst 0, 1) := dk_3 (dk_at dksX3_goesWith_1 11 rfl rfl)
theorem dX3_goesWith_35 : decode cX3_goesWith 35 = .ok (.ireturn, 1) := dk_172 (dk_at dksX3_goesWith_1 12 rfl rfl)
abbrev cX3_wants : ByteArray := prog_26_method_42_code
def yX3_wants : MethodName := ⟨RX3, "wants", "(ZI)V"⟩
def dkwX3_wants_1 : List UInt8 := [177]
abbrev dktX3_wants_1 : List UInt8 := dkwX3_wants_1 ++ []
def dkwX3_wants_0 : List UInt8 := [27, 154, 0, 23, 42, 180, 1, 52, 154, 0, 16, 42, 28, 181, 1, 52, 42, 42, 180, 1, 55, 181, 1, 58]
abbrev dktX3_wants_0 : List UInt8 := dkwX3_wants_0 ++ dktX3_wants_1
theorem dksX3_wants_0 : cX3_wants.data.toList.drop 0 = dktX3_wants_0 := by decide +kernel
theorem dksX3_wants_1 : cX3_wants.data.toList.drop 24 = dktX3_wants_1 := dk_seg dksX3_wants_0 24 rfl rfl
theorem dX3_wants_0 : decode cX3_wants 0 = .ok (.iload_n 1, 1) := dk_27 (dk_at dksX3_wants_0 0 rfl rfl)
theorem dX3_wants_1 : decode cX3_wants 1 = .ok (.ifCond .ne 23, 3) := dk_154 0 23 (dk_at dksX3_wants_0 1 rfl rfl)
theorem dX3_wants_4 : decode cX3_wants 4 = .ok (.aload_n 0, 1) := dk_42 (dk_at dksX3_wants_0 4 rfl rfl)
theorem dX3_wants_5 : decode cX3_wants 5 = .ok (.getfield 308, 3) := dk_180 1 52 (dk_at dksX3_wants_0 5 rfl rfl)
theorem dX3_wants_8 : decode cX3_wants 8 = .ok (.ifCond .ne 16, 3) := dk_154 0 16 (dk_at dksX3_wants_0 8 rfl rfl)
theorem dX3_wants_11 : decode cX3_wants 11 = .ok (.aload_n 0, 1) := dk_42 (dk_at dksX3_wants_0 11 rfl rfl)
theorem dX3_wants_12 : decode cX3_wants 12 = .ok (.iload_n 2, 1) := dk_28 (dk_at dksX3_wants_0 12 rfl rfl)
theorem dX3_wants_13 : decode cX3_wants 13 = .ok (.putfield 308, 3) := dk_181 1 52 (dk_at dksX3_wants_0 13 rfl rfl)
theorem dX3_wants_16 : decode cX3_wants 16 = .ok (.aload_n 0, 1) := dk_42 (dk_at dksX3_wants_0 16 rfl rfl)
theorem dX3_wants_17 : decode cX3_wants 17 = .ok (.aload_n 0, 1) := dk_42 (dk_at dksX3_wants_0 17 rfl rfl)
theorem dX3_wants_18 : decode cX3_wants 18 = .ok (.getfield 311, 3) := dk_180 1 55 (dk_at dksX3_wants_0 18 rfl rfl)
theorem dX3_wants_21 : decode cX3_wants 21 = .ok (.putfield 314, 3) := dk_181 1 58 (dk_at dksX3_wants_0 21 rfl rfl)
theorem dX3_wants_24 : decode cX3_wants 24 = .ok (.return_, 1) := dk_177 (dk_at dksX3_wants_1 0 rfl rfl)
abbrev cX3_readLine : ByteArray := prog_26_method_57_code
def yX3_readLine : MethodName := ⟨RX3, "readLine", "()V"⟩
def dkwX3_readLine_6 : List UInt8 := [180, 0, 89, 42, 180, 1, 131, 42, 180, 1, 100, 79, 177]
abbrev dktX3_readLine_6 : List UInt8 := dkwX3_readLine_6 ++ []
def dkwX3_readLine_5 : List UInt8 := [182, 1, 106, 5, 182, 1, 92, 42, 182, 1, 113, 42, 89, 180, 1, 131, 4, 96, 181, 1, 131, 42]
abbrev dktX3_readLine_5 : List UInt8 := dkwX3_readLine_5 ++ dktX3_readLine_6
def dkwX3_readLine_4 : List UInt8 := [159, 0, 8, 27, 5, 160, 0, 10, 42, 182, 1, 125, 167, 0, 7, 42, 182, 1, 134, 42, 42, 16, 59]
abbrev dktX3_readLine_4 : List UInt8 := dkwX3_readLine_4 ++ dktX3_readLine_5
def dkwX3_readLine_3 : List UInt8 := [180, 1, 131, 27, 79, 42, 180, 0, 89, 42, 180, 1, 131, 42, 180, 1, 100, 79, 42, 182, 1, 113, 27, 4]
abbrev dktX3_readLine_3 : List UInt8 := dkwX3_readLine_3 ++ dktX3_readLine_4
def dkwX3_readLine_2 : List UInt8 := [7, 182, 1, 92, 42, 180, 1, 52, 158, 0, 4, 177, 42, 180, 1, 89, 60, 42, 180, 0, 86, 42]
abbrev dktX3_readLine_2 : List UInt8 := dkwX3_readLine_2 ++ dktX3_readLine_3
def dkwX3_readLine_1 : List UInt8 := [4, 167, 0, 4, 3, 5, 182, 1, 92, 42, 42, 180, 1, 131, 16, 12, 162, 0, 7, 4, 167, 0, 4, 3]
abbrev dktX3_readLine_1 : List UInt8 := dkwX3_readLine_1 ++ dktX3_readLine_2
def dkwX3_readLine_0 : List UInt8 := [42, 42, 180, 1, 79, 4, 160, 0, 22, 42, 180, 1, 89, 133, 9, 20, 1, 3, 184, 0, 214, 153, 0, 7]
abbrev dktX3_readLine_0 : List UInt8 := dkwX3_readLine_0 ++ dktX3_readLine_1
theorem dksX3_readLine_0 : cX3_readLine.data.toList.drop 0 = dktX3_readLine_0 := by decide +kernel
theorem dksX3_readLine_1 : cX3_readLine.data.toList.drop 24 = dktX3_readLine_1 := dk_seg dksX3_readLine_0 24 rfl rfl
theorem dksX3_readLine_2 : cX3_readLine.data.toList.drop 48 = dktX3_readLine_2 := dk_seg dksX3_readLine_1 24 rfl rfl
theorem dksX3_readLine_3 : cX3_readLine.data.toList.drop 70 = dktX3_readLine_3 := dk_seg dksX3_readLine_2 22 rfl rfl
theorem dksX3_readLine_4 : cX3_readLine.data.toList.drop 94 = dktX3_readLine_4 := dk_seg dksX3_readLine_3 24 rfl rfl
theorem dksX3_readLine_5 : cX3_readLine.data.toList.drop 117 = dktX3_readLine_5 := dk_seg dksX3_readLine_4 23 rfl rfl
theorem dksX3_readLine_6 : cX3_readLine.data.toList.drop 139 = dktX3_readLine_6 := dk_seg dksX3_readLine_5 22 rfl rfl
theorem dX3_readLine_0 : decode cX3_readLine 0 = .ok (.aload_n 0, 1) := dk_42 (dk_at dksX3_readLine_0 0 rfl rfl)
theorem dX3_readLine_1 : decode cX3_readLine 1 = .ok (.aload_n 0, 1) := dk_42 (dk_at dksX3_readLine_0 1 rfl rfl)
theorem dX3_readLine_2 : decode cX3_readLine 2 = .ok (.getfield 335, 3) := dk_180 1 79 (dk_at dksX3_readLine_0 2 rfl rfl)
theorem dX3_readLine_5 : decode cX3_readLine 5 = .ok (.iconst 1, 1) := dk_4 (dk_at dksX3_readLine_0 5 rfl rfl)
theorem dX3_readLine_6 : decode cX3_readLine 6 = .ok (.if_icmp .ne 22, 3) := dk_160 0 22 (dk_at dksX3_readLine_0 6 rfl rfl)
theorem dX3_readLine_9 : decode cX3_readLine 9 = .ok (.aload_n 0, 1) := dk_42 (dk_at dksX3_readLine_0 9 rfl rfl)
theorem dX3_readLine_10 : decode cX3_readLine 10 = .ok (.getfield 345, 3) := dk_180 1 89 (dk_at dksX3_readLine_0 10 rfl rfl)
theorem dX3_readLine_13 : decode cX3_readLine 13 = .ok (.i2l, 1) := dk_133 (dk_at dksX3_readLine_0 13 rfl rfl)
theorem dX3_readLine_14 : decode cX3_readLine 14 = .ok (.lconst 0, 1) := dk_9 (dk_at dksX3_readLine_0 14 rfl rfl)
theorem dX3_readLine_15 : decode cX3_readLine 15 = .ok (.ldc2_w 259, 3) := dk_20 1 3 (dk_at dksX3_readLine_0 15 rfl rfl)
theorem dX3_readLine_18 : decode cX3_readLine 18 = .ok (.invokestatic 214, 3) := dk_184 0 214 (dk_at dksX3_readLine_0 18 rfl rfl)
theorem dX3_readLine_21 : decode cX3_readLine 21 = .ok (.ifCond .eq 7, 3) := dk_153 0 7 (dk_at dksX3_readLine_0 21 rfl rfl)
theorem dX3_readLine_24 : decode cX3_readLine 24 = .ok (.iconst 1, 1) := dk_4 (dk_at dksX3_readLine_1 0 rfl rfl)
theorem dX3_readLine_25 : decode cX3_readLine 25 = .ok (.goto 4, 3) := dk_167 0 4 (dk_at dksX3_readLine_1 1 rfl rfl)
theorem dX3_readLine_28 : decode cX3_readLine 28 = .ok (.iconst 0, 1) := dk_3 (dk_at dksX3_readLine_1 4 rfl rfl)
theorem dX3_readLine_29 : decode cX3_readLine 29 = .ok (.iconst 2, 1) := dk_5 (dk_at dksX3_readLine_1 5 rfl rfl)
theorem dX3_readLine_30 : decode cX3_readLine 30 = .ok (.invokevirtual 348, 3) := dk_182 1 92 (dk_at dksX3_readLine_1 6 rfl rfl)
theorem dX3_readLine_33 : decode cX3_readLine 33 = .ok (.aload_n 0, 1) := dk_42 (dk_at dksX3_readLine_1 9 rfl rfl)
theorem dX3_readLine_34 : decode cX3_readLine 34 = .ok (.aload_n 0, 1) := dk_42 (dk_at dksX3_readLine_1 10 rfl rfl)
theorem dX3_readLine_35 : decode cX3_readLine 35 = .ok (.getfield 387, 3) := dk_180 1 131 (dk_at dksX3_readLine_1 11 rfl rfl)
theorem dX3_readLine_38 : decode cX3_readLine 38 = .ok (.bipush 12, 2) := dk_16 12 (dk_at dksX3_readLine_1 14 rfl rfl)
theorem dX3_readLine_40 : decode cX3_readLine 40 = .ok (.if_icmp .ge 7, 3) := dk_162 0 7 (dk_at dksX3_readLine_1 16 rfl rfl)
theorem dX3_readLine_43 : decode cX3_readLine 43 = .ok (.iconst 1, 1) := dk_4 (dk_at dksX3_readLine_1 19 rfl rfl)
theorem dX3_readLine_44 : decode cX3_readLine 44 = .ok (.goto 4, 3) := dk_167 0 4 (dk_at dksX3_readLine_1 20 rfl rfl)
theorem dX3_readLine_47 : decode cX3_readLine 47 = .ok (.iconst 0, 1) := dk_3 (dk_at dksX3_readLine_1 23 rfl rfl)
theorem dX3_readLine_48 : decode cX3_readLine 48 = .ok (.iconst 4, 1) := dk_7 (dk_at dksX3_readLine_2 0 rfl rfl)
theorem dX3_readLine_49 : decode cX3_readLine 49 = .ok (.invokevirtual 348, 3) := dk_182 1 92 (dk_at dksX3_readLine_2 1 rfl rfl)
theorem dX3_readLine_52 : decode cX3_readLine 52 = .ok (.aload_n 0, 1) := dk_42 (dk_at dksX3_readLine_2 4 rfl rfl)
theorem dX3_readLine_53 : decode cX3_readLine 53 = .ok (.getfield 308, 3) := dk_180 1 52 (dk_at dksX3_readLine_2 5 rfl rfl)
theorem dX3_readLine_56 : decode cX3_readLine 56 = .ok (.ifCond .le 4, 3) := dk_158 0 4 (dk_at dksX3_readLine_2 8 rfl rfl)
theorem dX3_readLine_59 : decode cX3_readLine 59 = .ok (.return_, 1) := dk_177 (dk_at dksX3_readLine_2 11 rfl rfl)
theorem dX3_readLine_60 : decode cX3_readLine 60 = .ok (.aload_n 0, 1) := dk_42 (dk_at dksX3_readLine_2 12 rfl rfl)
theorem dX3_readLine_61 : decode cX3_readLine 61 = .ok (.getfield 345, 3) := dk_180 1 89 (dk_at dksX3_readLine_2 13 rfl rfl)
theorem dX3_readLine_64 : decode cX3_readLine 64 = .ok (.istore_n 1, 1) := dk_60 (dk_at dksX3_readLine_2 16 rfl rfl)
theorem dX3_readLine_65 : decode cX3_readLine 65 = .ok (.aload_n 0, 1) := dk_42 (dk_at dksX3_readLine_2 17 rfl rfl)
theorem dX3_readLine_66 : decode cX3_readLine 66 = .ok (.getfield 86, 3) := dk_180 0 86 (dk_at dksX3_readLine_2 18 rfl rfl)
theorem dX3_readLine_69 : decode cX3_readLine 69 = .ok (.aload_n 0, 1) := dk_42 (dk_at dksX3_readLine_2 21 rfl rfl)
theorem dX3_readLine_70 : decode cX3_readLine 70 = .ok (.getfield 387, 3) := dk_180 1 131 (dk_at dksX3_readLine_3 0 rfl rfl)
theorem dX3_readLine_73 : decode cX3_readLine 73 = .ok (.iload_n 1, 1) := dk_27 (dk_at dksX3_readLine_3 3 rfl rfl)
theorem dX3_readLine_74 : decode cX3_readLine 74 = .ok (.iastore, 1) := dk_79 (dk_at dksX3_readLine_3 4 rfl rfl)
theorem dX3_readLine_75 : decode cX3_readLine 75 = .ok (.aload_n 0, 1) := dk_42 (dk_at dksX3_readLine_3 5 rfl rfl)
theorem dX3_readLine_76 : decode cX3_readLine 76 = .ok (.getfield 89, 3) := dk_180 0 89 (dk_at dksX3_readLine_3 6 rfl rfl)
theorem dX3_readLine_79 : decode cX3_readLine 79 = .ok (.aload_n 0, 1) := dk_42 (dk_at dksX3_readLine_3 9 rfl rfl)
theorem dX3_readLine_80 : decode cX3_readLine 80 = .ok (.getfield 387, 3) := dk_180 1 131 (dk_at dksX3_readLine_3 10 rfl rfl)
theorem dX3_readLine_83 : decode cX3_readLine 83 = .ok (.aload_n 0, 1) := dk_42 (dk_at dksX3_readLine_3 13 rfl rfl)
theorem dX3_readLine_84 : decode cX3_readLine 84 = .ok (.getfield 356, 3) := dk_180 1 100 (dk_at dksX3_readLine_3 14 rfl rfl)
theorem dX3_readLine_87 : decode cX3_readLine 87 = .ok (.iastore, 1) := dk_79 (dk_at dksX3_readLine_3 17 rfl rfl)
theorem dX3_readLine_88 : decode cX3_readLine 88 = .ok (.aload_n 0, 1) := dk_42 (dk_at dksX3_readLine_3 18 rfl rfl)
theorem dX3_readLine_89 : decode cX3_readLine 89 = .ok (.invokevirtual 369, 3) := dk_182 1 113 (dk_at dksX3_readLine_3 19 rfl rfl)
theorem dX3_readLine_92 : decode cX3_readLine 92 = .ok (.iload_n 1, 1) := dk_27 (dk_at dksX3_readLine_3 22 rfl rfl)
theorem dX3_readLine_93 : decode cX3_readLine 93 = .ok (.iconst 1, 1) := dk_4 (dk_at dksX3_readLine_3 23 rfl rfl)
theorem dX3_readLine_94 : decode cX3_readLine 94 = .ok (.if_icmp .eq 8, 3) := dk_159 0 8 (dk_at dksX3_readLine_4 0 rfl rfl)
theorem dX3_readLine_97 : decode cX3_readLine 97 = .ok (.iload_n 1, 1) := dk_27 (dk_at dksX3_readLine_4 3 rfl rfl)
theorem dX3_readLine_98 : decode cX3_readLine 98 = .ok (.iconst 2, 1) := dk_5 (dk_at dksX3_readLine_4 4 rfl rfl)
theorem dX3_readLine_99 : decode cX3_readLine 99 = .ok (.if_icmp .ne 10, 3) := dk_160 0 10 (dk_at dksX3_readLine_4 5 rfl rfl)
theorem dX3_readLine_102 : decode cX3_readLine 102 = .ok (.aload_n 0, 1) := dk_42 (dk_at dksX3_readLine_4 8 rfl rfl)
theorem dX3_readLine_103 : decode cX3_readLine 103 = .ok (.invokevirtual 381, 3) := dk_182 1 125 (dk_at dksX3_readLine_4 9 rfl rfl)
theorem dX3_readLine_106 : decode cX3_readLine 106 = .ok (.goto 7, 3) := dk_167 0 7 (dk_at dksX3_readLine_4 12 rfl rfl)
theorem dX3_readLine_109 : decode cX3_readLine 109 = .ok (.aload_n 0, 1) := dk_42 (dk_at dksX3_readLine_4 15 rfl rfl)
theorem dX3_readLine_110 : decode cX3_readLine 110 = .ok (.invokevirtual 390, 3) := dk_182 1 134 (dk_at dksX3_readLine_4 16 rfl rfl)
theorem dX3_readLine_113 : decode cX3_readLine 113 = .ok (.aload_n 0, 1) := dk_42 (dk_at dksX3_readLine_4 19 rfl rfl)
theorem dX3_readLine_114 : decode cX3_readLine 114 = .ok (.aload_n 0, 1) := dk_42 (dk_at dksX3_readLine_4 20 rfl rfl)
theorem dX3_readLine_115 : decode cX3_readLine 115 = .ok (.bipush 59, 2) := dk_16 59 (dk_at dksX3_readLine_4 21 rfl rfl)
theorem dX3_readLine_117 : decode cX3_readLine 117 = .ok (.invokevirtual 362, 3) := dk_182 1 106 (dk_at dksX3_readLine_5 0 rfl rfl)
theorem dX3_readLine_120 : decode cX3_readLine 120 = .ok (.iconst 2, 1) := dk_5 (dk_at dksX3_readLine_5 3 rfl rfl)
theorem dX3_readLine_121 : decode cX3_readLine 121 = .ok (.invokevirtual 348, 3) := dk_182 1 92 (dk_at dksX3_readLine_5 4 rfl rfl)
theorem dX3_readLine_124 : decode cX3_readLine 124 = .ok (.aload_n 0, 1) := dk_42 (dk_at dksX3_readLine_5 7 rfl rfl)
theorem dX3_readLine_125 : decode cX3_readLine 125 = .ok (.invokevirtual 369, 3) := dk_182 1 113 (dk_at dksX3_readLine_5 8 rfl rfl)
theorem dX3_readLine_128 : decode cX3_readLine 128 = .ok (.aload_n 0, 1) := dk_42 (dk_at dksX3_readLine_5 11 rfl rfl)
theorem dX3_readLine_129 : decode cX3_readLine 129 = .ok (.dup, 1) := dk_89 (dk_at dksX3_readLine_5 12 rfl rfl)
theorem dX3_readLine_130 : decode cX3_readLine 130 = .ok (.getfield 387, 3) := dk_180 1 131 (dk_at dksX3_readLine_5 13 rfl rfl)
theorem dX3_readLine_133 : decode cX3_readLine 133 = .ok (.iconst 1, 1) := dk_4 (dk_at dksX3_readLine_5 16 rfl rfl)
theorem dX3_readLine_134 : decode cX3_readLine 134 = .ok (.iadd, 1) := dk_96 (dk_at dksX3_readLine_5 17 rfl rfl)
theorem dX3_readLine_135 : decode cX3_readLine 135 = .ok (.putfield 387, 3) := dk_181 1 131 (dk_at dksX3_readLine_5 18 rfl rfl)
theorem dX3_readLine_138 : decode cX3_readLine 138 = .ok (.aload_n 0, 1) := dk_42 (dk_at dksX3_readLine_5 21 rfl rfl)
theorem dX3_readLine_139 : decode cX3_readLine 139 = .ok (.getfield 89, 3) := dk_180 0 89 (dk_at dksX3_readLine_6 0 rfl rfl)
theorem dX3_readLine_142 : decode cX3_readLine 142 = .ok (.aload_n 0, 1) := dk_42 (dk_at dksX3_readLine_6 3 rfl rfl)
theorem dX3_readLine_143 : decode cX3_readLine 143 = .ok (.getfield 387, 3) := dk_180 1 131 (dk_at dksX3_readLine_6 4 rfl rfl)
theorem dX3_readLine_146 : decode cX3_readLine 146 = .ok (.aload_n 0, 1) := dk_42 (dk_at dksX3_readLine_6 7 rfl rfl)
theorem dX3_readLine_147 : decode cX3_readLine 147 = .ok (.getfield 356, 3) := dk_180 1 100 (dk_at dksX3_readLine_6 8 rfl rfl)
theorem dX3_readLine_150 : decode cX3_readLine 150 = .ok (.iastore, 1) := dk_79 (dk_at dksX3_readLine_6 11 rfl rfl)
theorem dX3_readLine_151 : decode cX3_readLine 151 = .ok (.return_, 1) := dk_177 (dk_at dksX3_readLine_6 12 rfl rfl)
abbrev cX3_readSum : ByteArray := prog_26_method_53_code
def yX3_readSum : MethodName := ⟨RX3, "readSum", "()V"⟩
def dkwX3_readSum_11 : List UInt8 := [27, 154, 0, 7, 4, 167, 0, 4, 3, 5, 182, 1, 92, 3, 62, 167, 254, 249, 42, 4, 182, 1, 119, 177]
abbrev dktX3_readSum_11 : List UInt8 := dkwX3_readSum_11 ++ []
def dkwX3_readSum_10 : List UInt8 := [182, 1, 119, 42, 89, 180, 1, 103, 4, 100, 181, 1, 103, 132, 1, 255, 42, 182, 1, 113, 167, 255, 12, 42]
abbrev dktX3_readSum_10 : List UInt8 := dkwX3_readSum_10 ++ dktX3_readSum_11
def dkwX3_readSum_9 : List UInt8 := [42, 182, 1, 113, 167, 255, 50, 42, 16, 41, 182, 1, 106, 153, 0, 32, 27, 158, 0, 28, 42, 4]
abbrev dktX3_readSum_9 : List UInt8 := dkwX3_readSum_9 ++ dktX3_readSum_10
def dkwX3_readSum_8 : List UInt8 := [180, 0, 95, 42, 180, 1, 103, 42, 180, 1, 89, 79, 42, 89, 180, 1, 103, 4, 96, 181, 1, 103, 4, 61]
abbrev dktX3_readSum_8 : List UInt8 := dkwX3_readSum_8 ++ dktX3_readSum_9
def dkwX3_readSum_7 : List UInt8 := [154, 0, 12, 42, 16, 45, 182, 1, 106, 153, 0, 46, 42, 42, 180, 1, 89, 184, 1, 116, 182, 1, 119, 42]
abbrev dktX3_readSum_7 : List UInt8 := dkwX3_readSum_7 ++ dktX3_readSum_8
def dkwX3_readSum_6 : List UInt8 := [42, 182, 1, 113, 167, 255, 120, 42, 16, 42, 182, 1, 106, 154, 0, 21, 42, 16, 43, 182, 1, 106]
abbrev dktX3_readSum_6 : List UInt8 := dkwX3_readSum_6 ++ dktX3_readSum_7
def dkwX3_readSum_5 : List UInt8 := [160, 0, 10, 42, 180, 1, 89, 167, 0, 12, 2, 42, 180, 1, 89, 16, 10, 100, 100, 182, 1, 109, 3, 61]
abbrev dktX3_readSum_5 : List UInt8 := dkwX3_readSum_5 ++ dktX3_readSum_6
def dkwX3_readSum_4 : List UInt8 := [42, 180, 1, 89, 16, 10, 161, 0, 7, 4, 167, 0, 4, 3, 5, 182, 1, 92, 42, 42, 180, 1, 79, 5]
abbrev dktX3_readSum_4 : List UInt8 := dkwX3_readSum_4 ++ dktX3_readSum_5
def dkwX3_readSum_3 : List UInt8 := [96, 181, 1, 103, 167, 0, 68, 42, 42, 180, 1, 79, 5, 159, 0, 20, 42, 180, 1, 79, 4, 160, 0, 16]
abbrev dktX3_readSum_3 : List UInt8 := dkwX3_readSum_3 ++ dktX3_readSum_4
def dkwX3_readSum_2 : List UInt8 := [6, 182, 1, 92, 132, 1, 1, 42, 180, 0, 95, 42, 180, 1, 103, 16, 40, 79, 42, 89, 180, 1, 103, 4]
abbrev dktX3_readSum_2 : List UInt8 := dkwX3_readSum_2 ++ dktX3_readSum_3
def dkwX3_readSum_1 : List UInt8 := [153, 0, 127, 42, 16, 40, 182, 1, 106, 153, 0, 46, 42, 27, 16, 6, 162, 0, 7, 4, 167, 0, 4, 3]
abbrev dktX3_readSum_1 : List UInt8 := dkwX3_readSum_1 ++ dktX3_readSum_2
def dkwX3_readSum_0 : List UInt8 := [3, 60, 4, 61, 4, 62, 42, 3, 181, 1, 103, 29, 153, 1, 9, 42, 180, 1, 52, 154, 1, 2, 28]
abbrev dktX3_readSum_0 : List UInt8 := dkwX3_readSum_0 ++ dktX3_readSum_1
theorem dksX3_readSum_0 : cX3_readSum.data.toList.drop 0 = dktX3_readSum_0 := by decide +kernel
theorem dksX3_readSum_1 : cX3_readSum.data.toList.drop 23 = dktX3_readSum_1 := dk_seg dksX3_readSum_0 23 rfl rfl
theorem dksX3_readSum_2 : cX3_readSum.data.toList.drop 47 = dktX3_readSum_2 := dk_seg dksX3_readSum_1 24 rfl rfl
theorem dksX3_readSum_3 : cX3_readSum.data.toList.drop 71 = dktX3_readSum_3 := dk_seg dksX3_readSum_2 24 rfl rfl
theorem dksX3_readSum_4 : cX3_readSum.data.toList.drop 95 = dktX3_readSum_4 := dk_seg dksX3_readSum_3 24 rfl rfl
theorem dksX3_readSum_5 : cX3_readSum.data.toList.drop 119 = dktX3_readSum_5 := dk_seg dksX3_readSum_4 24 rfl rfl
theorem dksX3_readSum_6 : cX3_readSum.data.toList.drop 143 = dktX3_readSum_6 := dk_seg dksX3_readSum_5 24 rfl rfl
theorem dksX3_readSum_7 : cX3_readSum.data.toList.drop 165 = dktX3_readSum_7 := dk_seg dksX3_readSum_6 22 rfl rfl
theorem dksX3_readSum_8 : cX3_readSum.data.toList.drop 189 = dktX3_readSum_8 := dk_seg dksX3_readSum_7 24 rfl rfl
theorem dksX3_readSum_9 : cX3_readSum.data.toList.drop 213 = dktX3_readSum_9 := dk_seg dksX3_readSum_8 24 rfl rfl
theorem dksX3_readSum_10 : cX3_readSum.data.toList.drop 235 = dktX3_readSum_10 := dk_seg dksX3_readSum_9 22 rfl rfl
theorem dksX3_readSum_11 : cX3_readSum.data.toList.drop 259 = dktX3_readSum_11 := dk_seg dksX3_readSum_10 24 rfl rfl
theorem dX3_readSum_0 : decode cX3_readSum 0 = .ok (.iconst 0, 1) := dk_3 (dk_at dksX3_readSum_0 0 rfl rfl)
theorem dX3_readSum_1 : decode cX3_readSum 1 = .ok (.istore_n 1, 1) := dk_60 (dk_at dksX3_readSum_0 1 rfl rfl)
theorem dX3_readSum_2 : decode cX3_readSum 2 = .ok (.iconst 1, 1) := dk_4 (dk_at dksX3_readSum_0 2 rfl rfl)
theorem dX3_readSum_3 : decode cX3_readSum 3 = .ok (.istore_n 2, 1) := dk_61 (dk_at dksX3_readSum_0 3 rfl rfl)
theorem dX3_readSum_4 : decode cX3_readSum 4 = .ok (.iconst 1, 1) := dk_4 (dk_at dksX3_readSum_0 4 rfl rfl)
theorem dX3_readSum_5 : decode cX3_readSum 5 = .ok (.istore_n 3, 1) := dk_62 (dk_at dksX3_readSum_0 5 rfl rfl)
theorem dX3_readSum_6 : decode cX3_readSum 6 = .ok (.aload_n 0, 1) := dk_42 (dk_at dksX3_readSum_0 6 rfl rfl)
theorem dX3_readSum_7 : decode cX3_readSum 7 = .ok (.iconst 0, 1) := dk_3 (dk_at dksX3_readSum_0 7 rfl rfl)
theorem dX3_readSum_8 : decode cX3_readSum 8 = .ok (.putfield 359, 3) := dk_181 1 103 (dk_at dksX3_readSum_0 8 rfl rfl)
theorem dX3_readSum_11 : decode cX3_readSum 11 = .ok (.iload_n 3, 1) := dk_29 (dk_at dksX3_readSum_0 11 rfl rfl)
theorem dX3_readSum_12 : decode cX3_readSum 12 = .ok (.ifCond .eq 265, 3) := dk_153 1 9 (dk_at dksX3_readSum_0 12 rfl rfl)
theorem dX3_readSum_15 : decode cX3_readSum 15 = .ok (.aload_n 0, 1) := dk_42 (dk_at dksX3_readSum_0 15 rfl rfl)
theorem dX3_readSum_16 : decode cX3_readSum 16 = .ok (.getfield 308, 3) := dk_180 1 52 (dk_at dksX3_readSum_0 16 rfl rfl)
theorem dX3_readSum_19 : decode cX3_readSum 19 = .ok (.ifCond .ne 258, 3) := dk_154 1 2 (dk_at dksX3_readSum_0 19 rfl rfl)
theorem dX3_readSum_22 : decode cX3_readSum 22 = .ok (.iload_n 2, 1) := dk_28 (dk_at dksX3_readSum_0 22 rfl rfl)
theorem dX3_readSum_23 : decode cX3_readSum 23 = .ok (.ifCond .eq 127, 3) := dk_153 0 127 (dk_at dksX3_readSum_1 0 rfl rfl)
theorem dX3_readSum_26 : decode cX3_readSum 26 = .ok (.aload_n 0, 1) := dk_42 (dk_at dksX3_readSum_1 3 rfl rfl)
theorem dX3_readSum_27 : decode cX3_readSum 27 = .ok (.bipush 40, 2) := dk_16 40 (dk_at dksX3_readSum_1 4 rfl rfl)
theorem dX3_readSum_29 : decode cX3_readSum 29 = .ok (.invokevirtual 362, 3) := dk_182 1 106 (dk_at dksX3_readSum_1 6 rfl rfl)
theorem dX3_readSum_32 : decode cX3_readSum 32 = .ok (.ifCond .eq 46, 3) := dk_153 0 46 (dk_at dksX3_readSum_1 9 rfl rfl)
theorem dX3_readSum_35 : decode cX3_readSum 35 = .ok (.aload_n 0, 1) := dk_42 (dk_at dksX3_readSum_1 12 rfl rfl)
theorem dX3_readSum_36 : decode cX3_readSum 36 = .ok (.iload_n 1, 1) := dk_27 (dk_at dksX3_readSum_1 13 rfl rfl)
theorem dX3_readSum_37 : decode cX3_readSum 37 = .ok (.bipush 6, 2) := dk_16 6 (dk_at dksX3_readSum_1 14 rfl rfl)
theorem dX3_readSum_39 : decode cX3_readSum 39 = .ok (.if_icmp .ge 7, 3) := dk_162 0 7 (dk_at dksX3_readSum_1 16 rfl rfl)
theorem dX3_readSum_42 : decode cX3_readSum 42 = .ok (.iconst 1, 1) := dk_4 (dk_at dksX3_readSum_1 19 rfl rfl)
theorem dX3_readSum_43 : decode cX3_readSum 43 = .ok (.goto 4, 3) := dk_167 0 4 (dk_at dksX3_readSum_1 20 rfl rfl)
theorem dX3_readSum_46 : decode cX3_readSum 46 = .ok (.iconst 0, 1) := dk_3 (dk_at dksX3_readSum_1 23 rfl rfl)
theorem dX3_readSum_47 : decode cX3_readSum 47 = .ok (.iconst 3, 1) := dk_6 (dk_at dksX3_readSum_2 0 rfl rfl)
theorem dX3_readSum_48 : decode cX3_readSum 48 = .ok (.invokevirtual 348, 3) := dk_182 1 92 (dk_at dksX3_readSum_2 1 rfl rfl)
theorem dX3_readSum_51 : decode cX3_readSum 51 = .ok (.iinc 1 1, 3) := dk_132 1 1 (dk_at dksX3_readSum_2 4 rfl rfl)
theorem dX3_readSum_54 : decode cX3_readSum 54 = .ok (.aload_n 0, 1) := dk_42 (dk_at dksX3_readSum_2 7 rfl rfl)
theorem dX3_readSum_55 : decode cX3_readSum 55 = .ok (.getfield 95, 3) := dk_180 0 95 (dk_at dksX3_readSum_2 8 rfl rfl)
theorem dX3_readSum_58 : decode cX3_readSum 58 = .ok (.aload_n 0, 1) := dk_42 (dk_at dksX3_readSum_2 11 rfl rfl)
theorem dX3_readSum_59 : decode cX3_readSum 59 = .ok (.getfield 359, 3) := dk_180 1 103 (dk_at dksX3_readSum_2 12 rfl rfl)
theorem dX3_readSum_62 : decode cX3_readSum 62 = .ok (.bipush 40, 2) := dk_16 40 (dk_at dksX3_readSum_2 15 rfl rfl)
theorem dX3_readSum_64 : decode cX3_readSum 64 = .ok (.iastore, 1) := dk_79 (dk_at dksX3_readSum_2 17 rfl rfl)
theorem dX3_readSum_65 : decode cX3_readSum 65 = .ok (.aload_n 0, 1) := dk_42 (dk_at dksX3_readSum_2 18 rfl rfl)
theorem dX3_readSum_66 : decode cX3_readSum 66 = .ok (.dup, 1) := dk_89 (dk_at dksX3_readSum_2 19 rfl rfl)
theorem dX3_readSum_67 : decode cX3_readSum 67 = .ok (.getfield 359, 3) := dk_180 1 103 (dk_at dksX3_readSum_2 20 rfl rfl)
theorem dX3_readSum_70 : decode cX3_readSum 70 = .ok (.iconst 1, 1) := dk_4 (dk_at dksX3_readSum_2 23 rfl rfl)
theorem dX3_readSum_71 : decode cX3_readSum 71 = .ok (.iadd, 1) := dk_96 (dk_at dksX3_readSum_3 0 rfl rfl)
theorem dX3_readSum_72 : decode cX3_readSum 72 = .ok (.putfield 359, 3) := dk_181 1 103 (dk_at dksX3_readSum_3 1 rfl rfl)
theorem dX3_readSum_75 : decode cX3_readSum 75 = .ok (.goto 68, 3) := dk_167 0 68 (dk_at dksX3_readSum_3 4 rfl rfl)
theorem dX3_readSum_78 : decode cX3_readSum 78 = .ok (.aload_n 0, 1) := dk_42 (dk_at dksX3_readSum_3 7 rfl rfl)
theorem dX3_readSum_79 : decode cX3_readSum 79 = .ok (.aload_n 0, 1) := dk_42 (dk_at dksX3_readSum_3 8 rfl rfl)
theorem dX3_readSum_80 : decode cX3_readSum 80 = .ok (.getfield 335, 3) := dk_180 1 79 (dk_at dksX3_readSum_3 9 rfl rfl)
theorem dX3_readSum_83 : decode cX3_readSum 83 = .ok (.iconst 2, 1) := dk_5 (dk_at dksX3_readSum_3 12 rfl rfl)
theorem dX3_readSum_84 : decode cX3_readSum 84 = .ok (.if_icmp .eq 20, 3) := dk_159 0 20 (dk_at dksX3_readSum_3 13 rfl rfl)
theorem dX3_readSum_87 : decode cX3_readSum 87 = .ok (.aload_n 0, 1) := dk_42 (dk_at dksX3_readSum_3 16 rfl rfl)
theorem dX3_readSum_88 : decode cX3_readSum 88 = .ok (.getfield 335, 3) := dk_180 1 79 (dk_at dksX3_readSum_3 17 rfl rfl)
theorem dX3_readSum_91 : decode cX3_readSum 91 = .ok (.iconst 1, 1) := dk_4 (dk_at dksX3_readSum_3 20 rfl rfl)
theorem dX3_readSum_92 : decode cX3_readSum 92 = .ok (.if_icmp .ne 16, 3) := dk_160 0 16 (dk_at dksX3_readSum_3 21 rfl rfl)
theorem dX3_readSum_95 : decode cX3_readSum 95 = .ok (.aload_n 0, 1) := dk_42 (dk_at dksX3_readSum_4 0 rfl rfl)
theorem dX3_readSum_96 : decode cX3_readSum 96 = .ok (.getfield 345, 3) := dk_180 1 89 (dk_at dksX3_readSum_4 1 rfl rfl)
theorem dX3_readSum_99 : decode cX3_readSum 99 = .ok (.bipush 10, 2) := dk_16 10 (dk_at dksX3_readSum_4 4 rfl rfl)
theorem dX3_readSum_101 : decode cX3_readSum 101 = .ok (.if_icmp .lt 7, 3) := dk_161 0 7 (dk_at dksX3_readSum_4 6 rfl rfl)
theorem dX3_readSum_104 : decode cX3_readSum 104 = .ok (.iconst 1, 1) := dk_4 (dk_at dksX3_readSum_4 9 rfl rfl)
theorem dX3_readSum_105 : decode cX3_readSum 105 = .ok (.goto 4, 3) := dk_167 0 4 (dk_at dksX3_readSum_4 10 rfl rfl)
theorem dX3_readSum_108 : decode cX3_readSum 108 = .ok (.iconst 0, 1) := dk_3 (dk_at dksX3_readSum_4 13 rfl rfl)
theorem dX3_readSum_109 : decode cX3_readSum 109 = .ok (.iconst 2, 1) := dk_5 (dk_at dksX3_readSum_4 14 rfl rfl)
theorem dX3_readSum_110 : decode cX3_readSum 110 = .ok (.invokevirtual 348, 3) := dk_182 1 92 (dk_at dksX3_readSum_4 15 rfl rfl)
theorem dX3_readSum_113 : decode cX3_readSum 113 = .ok (.aload_n 0, 1) := dk_42 (dk_at dksX3_readSum_4 18 rfl rfl)
theorem dX3_readSum_114 : decode cX3_readSum 114 = .ok (.aload_n 0, 1) := dk_42 (dk_at dksX3_readSum_4 19 rfl rfl)
theorem dX3_readSum_115 : decode cX3_readSum 115 = .ok (.getfield 335, 3) := dk_180 1 79 (dk_at dksX3_readSum_4 20 rfl rfl)
theorem dX3_readSum_118 : decode cX3_readSum 118 = .ok (.iconst 2, 1) := dk_5 (dk_at dksX3_readSum_4 23 rfl rfl)
theorem dX3_readSum_119 : decode cX3_readSum 119 = .ok (.if_icmp .ne 10, 3) := dk_160 0 10 (dk_at dksX3_readSum_5 0 rfl rfl)
theorem dX3_readSum_122 : decode cX3_readSum 122 = .ok (.aload_n 0, 1) := dk_42 (dk_at dksX3_readSum_5 3 rfl rfl)
theorem dX3_readSum_123 : decode cX3_readSum 123 = .ok (.getfield 345, 3) := dk_180 1 89 (dk_at dksX3_readSum_5 4 rfl rfl)
theorem dX3_readSum_126 : decode cX3_readSum 126 = .ok (.goto 12, 3) := dk_167 0 12 (dk_at dksX3_readSum_5 7 rfl rfl)
theorem dX3_readSum_129 : decode cX3_readSum 129 = .ok (.iconst (-1), 1) := dk_2 (dk_at dksX3_readSum_5 10 rfl rfl)
theorem dX3_readSum_130 : decode cX3_readSum 130 = .ok (.aload_n 0, 1) := dk_42 (dk_at dksX3_readSum_5 11 rfl rfl)
theorem dX3_readSum_131 : decode cX3_readSum 131 = .ok (.getfield 345, 3) := dk_180 1 89 (dk_at dksX3_readSum_5 12 rfl rfl)
theorem dX3_readSum_134 : decode cX3_readSum 134 = .ok (.bipush 10, 2) := dk_16 10 (dk_at dksX3_readSum_5 15 rfl rfl)
theorem dX3_readSum_136 : decode cX3_readSum 136 = .ok (.isub, 1) := dk_100 (dk_at dksX3_readSum_5 17 rfl rfl)
theorem dX3_readSum_137 : decode cX3_readSum 137 = .ok (.isub, 1) := dk_100 (dk_at dksX3_readSum_5 18 rfl rfl)
theorem dX3_readSum_138 : decode cX3_readSum 138 = .ok (.invokevirtual 365, 3) := dk_182 1 109 (dk_at dksX3_readSum_5 19 rfl rfl)
theorem dX3_readSum_141 : decode cX3_readSum 141 = .ok (.iconst 0, 1) := dk_3 (dk_at dksX3_readSum_5 22 rfl rfl)
theorem dX3_readSum_142 : decode cX3_readSum 142 = .ok (.istore_n 2, 1) := dk_61 (dk_at dksX3_readSum_5 23 rfl rfl)
theorem dX3_readSum_143 : decode cX3_readSum 143 = .ok (.aload_n 0, 1) := dk_42 (dk_at dksX3_readSum_6 0 rfl rfl)
theorem dX3_readSum_144 : decode cX3_readSum 144 = .ok (.invokevirtual 369, 3) := dk_182 1 113 (dk_at dksX3_readSum_6 1 rfl rfl)
theorem dX3_readSum_147 : decode cX3_readSum 147 = .ok (.goto (-136), 3) := dk_167 255 120 (dk_at dksX3_readSum_6 4 rfl rfl)
theorem dX3_readSum_150 : decode cX3_readSum 150 = .ok (.aload_n 0, 1) := dk_42 (dk_at dksX3_readSum_6 7 rfl rfl)
theorem dX3_readSum_151 : decode cX3_readSum 151 = .ok (.bipush 42, 2) := dk_16 42 (dk_at dksX3_readSum_6 8 rfl rfl)
theorem dX3_readSum_153 : decode cX3_readSum 153 = .ok (.invokevirtual 362, 3) := dk_182 1 106 (dk_at dksX3_readSum_6 10 rfl rfl)
theorem dX3_readSum_156 : decode cX3_readSum 156 = .ok (.ifCond .ne 21, 3) := dk_154 0 21 (dk_at dksX3_readSum_6 13 rfl rfl)
theorem dX3_readSum_159 : decode cX3_readSum 159 = .ok (.aload_n 0, 1) := dk_42 (dk_at dksX3_readSum_6 16 rfl rfl)
theorem dX3_readSum_160 : decode cX3_readSum 160 = .ok (.bipush 43, 2) := dk_16 43 (dk_at dksX3_readSum_6 17 rfl rfl)
theorem dX3_readSum_162 : decode cX3_readSum 162 = .ok (.invokevirtual 362, 3) := dk_182 1 106 (dk_at dksX3_readSum_6 19 rfl rfl)
theorem dX3_readSum_165 : decode cX3_readSum 165 = .ok (.ifCond .ne 12, 3) := dk_154 0 12 (dk_at dksX3_readSum_7 0 rfl rfl)
theorem dX3_readSum_168 : decode cX3_readSum 168 = .ok (.aload_n 0, 1) := dk_42 (dk_at dksX3_readSum_7 3 rfl rfl)
theorem dX3_readSum_169 : decode cX3_readSum 169 = .ok (.bipush 45, 2) := dk_16 45 (dk_at dksX3_readSum_7 4 rfl rfl)
theorem dX3_readSum_171 : decode cX3_readSum 171 = .ok (.invokevirtual 362, 3) := dk_182 1 106 (dk_at dksX3_readSum_7 6 rfl rfl)
theorem dX3_readSum_174 : decode cX3_readSum 174 = .ok (.ifCond .eq 46, 3) := dk_153 0 46 (dk_at dksX3_readSum_7 9 rfl rfl)
theorem dX3_readSum_177 : decode cX3_readSum 177 = .ok (.aload_n 0, 1) := dk_42 (dk_at dksX3_readSum_7 12 rfl rfl)
theorem dX3_readSum_178 : decode cX3_readSum 178 = .ok (.aload_n 0, 1) := dk_42 (dk_at dksX3_readSum_7 13 rfl rfl)
theorem dX3_readSum_179 : decode cX3_readSum 179 = .ok (.getfield 345, 3) := dk_180 1 89 (dk_at dksX3_readSum_7 14 rfl rfl)
theorem dX3_readSum_182 : decode cX3_readSum 182 = .ok (.invokestatic 372, 3) := dk_184 1 116 (dk_at dksX3_readSum_7 17 rfl rfl)
theorem dX3_readSum_185 : decode cX3_readSum 185 = .ok (.invokevirtual 375, 3) := dk_182 1 119 (dk_at dksX3_readSum_7 20 rfl rfl)
theorem dX3_readSum_188 : decode cX3_readSum 188 = .ok (.aload_n 0, 1) := dk_42 (dk_at dksX3_readSum_7 23 rfl rfl)
theorem dX3_readSum_189 : decode cX3_readSum 189 = .ok (.getfield 95, 3) := dk_180 0 95 (dk_at dksX3_readSum_8 0 rfl rfl)
theorem dX3_readSum_192 : decode cX3_readSum 192 = .ok (.aload_n 0, 1) := dk_42 (dk_at dksX3_readSum_8 3 rfl rfl)
theorem dX3_readSum_193 : decode cX3_readSum 193 = .ok (.getfield 359, 3) := dk_180 1 103 (dk_at dksX3_readSum_8 4 rfl rfl)
theorem dX3_readSum_196 : decode cX3_readSum 196 = .ok (.aload_n 0, 1) := dk_42 (dk_at dksX3_readSum_8 7 rfl rfl)
theorem dX3_readSum_197 : decode cX3_readSum 197 = .ok (.getfield 345, 3) := dk_180 1 89 (dk_at dksX3_readSum_8 8 rfl rfl)
theorem dX3_readSum_200 : decode cX3_readSum 200 = .ok (.iastore, 1) := dk_79 (dk_at dksX3_readSum_8 11 rfl rfl)
theorem dX3_readSum_201 : decode cX3_readSum 201 = .ok (.aload_n 0, 1) := dk_42 (dk_at dksX3_readSum_8 12 rfl rfl)
theorem dX3_readSum_202 : decode cX3_readSum 202 = .ok (.dup, 1) := dk_89 (dk_at dksX3_readSum_8 13 rfl rfl)
theorem dX3_readSum_203 : decode cX3_readSum 203 = .ok (.getfield 359, 3) := dk_180 1 103 (dk_at dksX3_readSum_8 14 rfl rfl)
theorem dX3_readSum_206 : decode cX3_readSum 206 = .ok (.iconst 1, 1) := dk_4 (dk_at dksX3_readSum_8 17 rfl rfl)
theorem dX3_readSum_207 : decode cX3_readSum 207 = .ok (.iadd, 1) := dk_96 (dk_at dksX3_readSum_8 18 rfl rfl)
theorem dX3_readSum_208 : decode cX3_readSum 208 = .ok (.putfield 359, 3) := dk_181 1 103 (dk_at dksX3_readSum_8 19 rfl rfl)
theorem dX3_readSum_211 : decode cX3_readSum 211 = .ok (.iconst 1, 1) := dk_4 (dk_at dksX3_readSum_8 22 rfl rfl)
theorem dX3_readSum_212 : decode cX3_readSum 212 = .ok (.istore_n 2, 1) := dk_61 (dk_at dksX3_readSum_8 23 rfl rfl)
theorem dX3_readSum_213 : decode cX3_readSum 213 = .ok (.aload_n 0, 1) := dk_42 (dk_at dksX3_readSum_9 0 rfl rfl)
theorem dX3_readSum_214 : decode cX3_readSum 214 = .ok (.invokevirtual 369, 3) := dk_182 1 113 (dk_at dksX3_readSum_9 1 rfl rfl)
theorem dX3_readSum_217 : decode cX3_readSum 217 = .ok (.goto (-206), 3) := dk_167 255 50 (dk_at dksX3_readSum_9 4 rfl rfl)
theorem dX3_readSum_220 : decode cX3_readSum 220 = .ok (.aload_n 0, 1) := dk_42 (dk_at dksX3_readSum_9 7 rfl rfl)
theorem dX3_readSum_221 : decode cX3_readSum 221 = .ok (.bipush 41, 2) := dk_16 41 (dk_at dksX3_readSum_9 8 rfl rfl)
theorem dX3_readSum_223 : decode cX3_readSum 223 = .ok (.invokevirtual 362, 3) := dk_182 1 106 (dk_at dksX3_readSum_9 10 rfl rfl)
theorem dX3_readSum_226 : decode cX3_readSum 226 = .ok (.ifCond .eq 32, 3) := dk_153 0 32 (dk_at dksX3_readSum_9 13 rfl rfl)
theorem dX3_readSum_229 : decode cX3_readSum 229 = .ok (.iload_n 1, 1) := dk_27 (dk_at dksX3_readSum_9 16 rfl rfl)
theorem dX3_readSum_230 : decode cX3_readSum 230 = .ok (.ifCond .le 28, 3) := dk_158 0 28 (dk_at dksX3_readSum_9 17 rfl rfl)
theorem dX3_readSum_233 : decode cX3_readSum 233 = .ok (.aload_n 0, 1) := dk_42 (dk_at dksX3_readSum_9 20 rfl rfl)
theorem dX3_readSum_234 : decode cX3_readSum 234 = .ok (.iconst 1, 1) := dk_4 (dk_at dksX3_readSum_9 21 rfl rfl)
theorem dX3_readSum_235 : decode cX3_readSum 235 = .ok (.invokevirtual 375, 3) := dk_182 1 119 (dk_at dksX3_readSum_10 0 rfl rfl)
theorem dX3_readSum_238 : decode cX3_readSum 238 = .ok (.aload_n 0, 1) := dk_42 (dk_at dksX3_readSum_10 3 rfl rfl)
theorem dX3_readSum_239 : decode cX3_readSum 239 = .ok (.dup, 1) := dk_89 (dk_at dksX3_readSum_10 4 rfl rfl)
theorem dX3_readSum_240 : decode cX3_readSum 240 = .ok (.getfield 359, 3) := dk_180 1 103 (dk_at dksX3_readSum_10 5 rfl rfl)
theorem dX3_readSum_243 : decode cX3_readSum 243 = .ok (.iconst 1, 1) := dk_4 (dk_at dksX3_readSum_10 8 rfl rfl)
theorem dX3_readSum_244 : decode cX3_readSum 244 = .ok (.isub, 1) := dk_100 (dk_at dksX3_readSum_10 9 rfl rfl)
theorem dX3_readSum_245 : decode cX3_readSum 245 = .ok (.putfield 359, 3) := dk_181 1 103 (dk_at dksX3_readSum_10 10 rfl rfl)
theorem dX3_readSum_248 : decode cX3_readSum 248 = .ok (.iinc 1 (-1), 3) := dk_132 1 255 (dk_at dksX3_readSum_10 13 rfl rfl)
theorem dX3_readSum_251 : decode cX3_readSum 251 = .ok (.aload_n 0, 1) := dk_42 (dk_at dksX3_readSum_10 16 rfl rfl)
theorem dX3_readSum_252 : decode cX3_readSum 252 = .ok (.invokevirtual 369, 3) := dk_182 1 113 (dk_at dksX3_readSum_10 17 rfl rfl)
theorem dX3_readSum_255 : decode cX3_readSum 255 = .ok (.goto (-244), 3) := dk_167 255 12 (dk_at dksX3_readSum_10 20 rfl rfl)
theorem dX3_readSum_258 : decode cX3_readSum 258 = .ok (.aload_n 0, 1) := dk_42 (dk_at dksX3_readSum_10 23 rfl rfl)
theorem dX3_readSum_259 : decode cX3_readSum 259 = .ok (.iload_n 1, 1) := dk_27 (dk_at dksX3_readSum_11 0 rfl rfl)
theorem dX3_readSum_260 : decode cX3_readSum 260 = .ok (.ifCond .ne 7, 3) := dk_154 0 7 (dk_at dksX3_readSum_11 1 rfl rfl)
theorem dX3_readSum_263 : decode cX3_readSum 263 = .ok (.iconst 1, 1) := dk_4 (dk_at dksX3_readSum_11 4 rfl rfl)
theorem dX3_readSum_264 : decode cX3_readSum 264 = .ok (.goto 4, 3) := dk_167 0 4 (dk_at dksX3_readSum_11 5 rfl rfl)
theorem dX3_readSum_267 : decode cX3_readSum 267 = .ok (.iconst 0, 1) := dk_3 (dk_at dksX3_readSum_11 8 rfl rfl)
theorem dX3_readSum_268 : decode cX3_readSum 268 = .ok (.iconst 2, 1) := dk_5 (dk_at dksX3_readSum_11 9 rfl rfl)
theorem dX3_readSum_269 : decode cX3_readSum 269 = .ok (.invokevirtual 348, 3) := dk_182 1 92 (dk_at dksX3_readSum_11 10 rfl rfl)
theorem dX3_readSum_272 : decode cX3_readSum 272 = .ok (.iconst 0, 1) := dk_3 (dk_at dksX3_readSum_11 13 rfl rfl)
theorem dX3_readSum_273 : decode cX3_readSum 273 = .ok (.istore_n 3, 1) := dk_62 (dk_at dksX3_readSum_11 14 rfl rfl)
theorem dX3_readSum_274 : decode cX3_readSum 274 = .ok (.goto (-263), 3) := dk_167 254 249 (dk_at dksX3_readSum_11 15 rfl rfl)
theorem dX3_readSum_277 : decode cX3_readSum 277 = .ok (.aload_n 0, 1) := dk_42 (dk_at dksX3_readSum_11 18 rfl rfl)
theorem dX3_readSum_278 : decode cX3_readSum 278 = .ok (.iconst 1, 1) := dk_4 (dk_at dksX3_readSum_11 19 rfl rfl)
theorem dX3_readSum_279 : decode cX3_readSum 279 = .ok (.invokevirtual 375, 3) := dk_182 1 119 (dk_at dksX3_readSum_11 20 rfl rfl)
theorem dX3_readSum_282 : decode cX3_readSum 282 = .ok (.return_, 1) := dk_177 (dk_at dksX3_readSum_11 23 rfl rfl)
abbrev cX3_isSign : ByteArray := prog_26_method_49_code
def yX3_isSign : MethodName := ⟨RX3, "isSign", "(I)Z"⟩
def dkwX3_isSign_0 : List UInt8 := [42, 180, 1, 79, 6, 160, 0, 15, 42, 180, 1, 89, 27, 160, 0, 7, 4, 167, 0, 4, 3, 172]
abbrev dktX3_isSign_0 : List UInt8 := dkwX3_isSign_0 ++ []
theorem dksX3_isSign_0 : cX3_isSign.data.toList.drop 0 = dktX3_isSign_0 := by decide +kernel
theorem dX3_isSign_0 : decode cX3_isSign 0 = .ok (.aload_n 0, 1) := dk_42 (dk_at dksX3_isSign_0 0 rfl rfl)
theorem dX3_isSign_1 : decode cX3_isSign 1 = .ok (.getfield 335, 3) := dk_180 1 79 (dk_at dksX3_isSign_0 1 rfl rfl)
theorem dX3_isSign_4 : decode cX3_isSign 4 = .ok (.iconst 3, 1) := dk_6 (dk_at dksX3_isSign_0 4 rfl rfl)
theorem dX3_isSign_5 : decode cX3_isSign 5 = .ok (.if_icmp .ne 15, 3) := dk_160 0 15 (dk_at dksX3_isSign_0 5 rfl rfl)
theorem dX3_isSign_8 : decode cX3_isSign 8 = .ok (.aload_n 0, 1) := dk_42 (dk_at dksX3_isSign_0 8 rfl rfl)
theorem dX3_isSign_9 : decode cX3_isSign 9 = .ok (.getfield 345, 3) := dk_180 1 89 (dk_at dksX3_isSign_0 9 rfl rfl)
theorem dX3_isSign_12 : decode cX3_isSign 12 = .ok (.iload_n 1, 1) := dk_27 (dk_at dksX3_isSign_0 12 rfl rfl)
theorem dX3_isSign_13 : decode cX3_isSign 13 = .ok (.if_icmp .ne 7, 3) := dk_160 0 7 (dk_at dksX3_isSign_0 13 rfl rfl)
theorem dX3_isSign_16 : decode cX3_isSign 16 = .ok (.iconst 1, 1) := dk_4 (dk_at dksX3_isSign_0 16 rfl rfl)
theorem dX3_isSign_17 : decode cX3_isSign 17 = .ok (.goto 4, 3) := dk_167 0 4 (dk_at dksX3_isSign_0 17 rfl rfl)
theorem dX3_isSign_20 : decode cX3_isSign 20 = .ok (.iconst 0, 1) := dk_3 (dk_at dksX3_isSign_0 20 rfl rfl)
theorem dX3_isSign_21 : decode cX3_isSign 21 = .ok (.ireturn, 1) := dk_172 (dk_at dksX3_isSign_0 21 rfl rfl)
abbrev cX3_code : ByteArray := prog_26_method_51_code
def yX3_code : MethodName := ⟨RX3, "code", "(I)V"⟩
def dkwX3_code_0 : List UInt8 := [42, 180, 0, 92, 42, 180, 1, 100, 27, 79, 42, 89, 180, 1, 100, 4, 96, 181, 1, 100, 177]
abbrev dktX3_code_0 : List UInt8 := dkwX3_code_0 ++ []
theorem dksX3_code_0 : cX3_code.data.toList.drop 0 = dktX3_code_0 := by decide +kernel
theorem dX3_code_0 : decode cX3_code 0 = .ok (.aload_n 0, 1) := dk_42 (dk_at dksX3_code_0 0 rfl rfl)
theorem dX3_code_1 : decode cX3_code 1 = .ok (.getfield 92, 3) := dk_180 0 92 (dk_at dksX3_code_0 1 rfl rfl)
theorem dX3_code_4 : decode cX3_code 4 = .ok (.aload_n 0, 1) := dk_42 (dk_at dksX3_code_0 4 rfl rfl)
theorem dX3_code_5 : decode cX3_code 5 = .ok (.getfield 356, 3) := dk_180 1 100 (dk_at dksX3_code_0 5 rfl rfl)
theorem dX3_code_8 : decode cX3_code 8 = .ok (.iload_n 1, 1) := dk_27 (dk_at dksX3_code_0 8 rfl rfl)
theorem dX3_code_9 : decode cX3_code 9 = .ok (.iastore, 1) := dk_79 (dk_at dksX3_code_0 9 rfl rfl)
theorem dX3_code_10 : decode cX3_code 10 = .ok (.aload_n 0, 1) := dk_42 (dk_at dksX3_code_0 10 rfl rfl)
theorem dX3_code_11 : decode cX3_code 11 = .ok (.dup, 1) := dk_89 (dk_at dksX3_code_0 11 rfl rfl)
theorem dX3_code_12 : decode cX3_code 12 = .ok (.getfield 356, 3) := dk_180 1 100 (dk_at dksX3_code_0 12 rfl rfl)
theorem dX3_code_15 : decode cX3_code 15 = .ok (.iconst 1, 1) := dk_4 (dk_at dksX3_code_0 15 rfl rfl)
theorem dX3_code_16 : decode cX3_code 16 = .ok (.iadd, 1) := dk_96 (dk_at dksX3_code_0 16 rfl rfl)
theorem dX3_code_17 : decode cX3_code 17 = .ok (.putfield 356, 3) := dk_181 1 100 (dk_at dksX3_code_0 17 rfl rfl)
theorem dX3_code_20 : decode cX3_code 20 = .ok (.return_, 1) := dk_177 (dk_at dksX3_code_0 20 rfl rfl)
abbrev cX3_rank : ByteArray := prog_26_method_52_code
def yX3_rank : MethodName := ⟨RX3, "rank", "(I)I"⟩
def dkwX3_rank_1 : List UInt8 := [167, 0, 4, 3, 172]
abbrev dktX3_rank_1 : List UInt8 := dkwX3_rank_1 ++ []
def dkwX3_rank_0 : List UInt8 := [26, 16, 42, 160, 0, 7, 5, 167, 0, 20, 26, 16, 43, 159, 0, 9, 26, 16, 45, 160, 0, 7, 4]
abbrev dktX3_rank_0 : List UInt8 := dkwX3_rank_0 ++ dktX3_rank_1
theorem dksX3_rank_0 : cX3_rank.data.toList.drop 0 = dktX3_rank_0 := by decide +kernel
theorem dksX3_rank_1 : cX3_rank.data.toList.drop 23 = dktX3_rank_1 := dk_seg dksX3_rank_0 23 rfl rfl
theorem dX3_rank_0 : decode cX3_rank 0 = .ok (.iload_n 0, 1) := dk_26 (dk_at dksX3_rank_0 0 rfl rfl)
theorem dX3_rank_1 : decode cX3_rank 1 = .ok (.bipush 42, 2) := dk_16 42 (dk_at dksX3_rank_0 1 rfl rfl)
theorem dX3_rank_3 : decode cX3_rank 3 = .ok (.if_icmp .ne 7, 3) := dk_160 0 7 (dk_at dksX3_rank_0 3 rfl rfl)
theorem dX3_rank_6 : decode cX3_rank 6 = .ok (.iconst 2, 1) := dk_5 (dk_at dksX3_rank_0 6 rfl rfl)
theorem dX3_rank_7 : decode cX3_rank 7 = .ok (.goto 20, 3) := dk_167 0 20 (dk_at dksX3_rank_0 7 rfl rfl)
theorem dX3_rank_10 : decode cX3_rank 10 = .ok (.iload_n 0, 1) := dk_26 (dk_at dksX3_rank_0 10 rfl rfl)
theorem dX3_rank_11 : decode cX3_rank 11 = .ok (.bipush 43, 2) := dk_16 43 (dk_at dksX3_rank_0 11 rfl rfl)
theorem dX3_rank_13 : decode cX3_rank 13 = .ok (.if_icmp .eq 9, 3) := dk_159 0 9 (dk_at dksX3_rank_0 13 rfl rfl)
theorem dX3_rank_16 : decode cX3_rank 16 = .ok (.iload_n 0, 1) := dk_26 (dk_at dksX3_rank_0 16 rfl rfl)
theorem dX3_rank_17 : decode cX3_rank 17 = .ok (.bipush 45, 2) := dk_16 45 (dk_at dksX3_rank_0 17 rfl rfl)
theorem dX3_rank_19 : decode cX3_rank 19 = .ok (.if_icmp .ne 7, 3) := dk_160 0 7 (dk_at dksX3_rank_0 19 rfl rfl)
theorem dX3_rank_22 : decode cX3_rank 22 = .ok (.iconst 1, 1) := dk_4 (dk_at dksX3_rank_0 22 rfl rfl)
theorem dX3_rank_23 : decode cX3_rank 23 = .ok (.goto 4, 3) := dk_167 0 4 (dk_at dksX3_rank_1 0 rfl rfl)
theorem dX3_rank_26 : decode cX3_rank 26 = .ok (.iconst 0, 1) := dk_3 (dk_at dksX3_rank_1 3 rfl rfl)
theorem dX3_rank_27 : decode cX3_rank 27 = .ok (.ireturn, 1) := dk_172 (dk_at dksX3_rank_1 4 rfl rfl)
abbrev cX3_pops : ByteArray := prog_26_method_54_code
def yX3_pops : MethodName := ⟨RX3, "pops", "(I)V"⟩
def dkwX3_pops_2 : List UInt8 := [46, 100, 182, 1, 109, 167, 255, 205, 177]
abbrev dktX3_pops_2 : List UInt8 := dkwX3_pops_2 ++ []
def dkwX3_pops_1 : List UInt8 := [161, 0, 32, 42, 89, 180, 1, 103, 4, 100, 181, 1, 103, 42, 16, 156, 42, 180, 0, 95, 42, 180, 1, 103]
abbrev dktX3_pops_1 : List UInt8 := dkwX3_pops_1 ++ dktX3_pops_2
def dkwX3_pops_0 : List UInt8 := [42, 180, 1, 103, 158, 0, 50, 42, 180, 0, 95, 42, 180, 1, 103, 4, 100, 46, 184, 1, 116, 27]
abbrev dktX3_pops_0 : List UInt8 := dkwX3_pops_0 ++ dktX3_pops_1
theorem dksX3_pops_0 : cX3_pops.data.toList.drop 0 = dktX3_pops_0 := by decide +kernel
theorem dksX3_pops_1 : cX3_pops.data.toList.drop 22 = dktX3_pops_1 := dk_seg dksX3_pops_0 22 rfl rfl
theorem dksX3_pops_2 : cX3_pops.data.toList.drop 46 = dktX3_pops_2 := dk_seg dksX3_pops_1 24 rfl rfl
theorem dX3_pops_0 : decode cX3_pops 0 = .ok (.aload_n 0, 1) := dk_42 (dk_at dksX3_pops_0 0 rfl rfl)
theorem dX3_pops_1 : decode cX3_pops 1 = .ok (.getfield 359, 3) := dk_180 1 103 (dk_at dksX3_pops_0 1 rfl rfl)
theorem dX3_pops_4 : decode cX3_pops 4 = .ok (.ifCond .le 50, 3) := dk_158 0 50 (dk_at dksX3_pops_0 4 rfl rfl)
theorem dX3_pops_7 : decode cX3_pops 7 = .ok (.aload_n 0, 1) := dk_42 (dk_at dksX3_pops_0 7 rfl rfl)
theorem dX3_pops_8 : decode cX3_pops 8 = .ok (.getfield 95, 3) := dk_180 0 95 (dk_at dksX3_pops_0 8 rfl rfl)
theorem dX3_pops_11 : decode cX3_pops 11 = .ok (.aload_n 0, 1) := dk_42 (dk_at dksX3_pops_0 11 rfl rfl)
theorem dX3_pops_12 : decode cX3_pops 12 = .ok (.getfield 359, 3) := dk_180 1 103 (dk_at dksX3_pops_0 12 rfl rfl)
theorem dX3_pops_15 : decode cX3_pops 15 = .ok (.iconst 1, 1) := dk_4 (dk_at dksX3_pops_0 15 rfl rfl)
theorem dX3_pops_16 : decode cX3_pops 16 = .ok (.isub, 1) := dk_100 (dk_at dksX3_pops_0 16 rfl rfl)
theorem dX3_pops_17 : decode cX3_pops 17 = .ok (.iaload, 1) := dk_46 (dk_at dksX3_pops_0 17 rfl rfl)
theorem dX3_pops_18 : decode cX3_pops 18 = .ok (.invokestatic 372, 3) := dk_184 1 116 (dk_at dksX3_pops_0 18 rfl rfl)
theorem dX3_pops_21 : decode cX3_pops 21 = .ok (.iload_n 1, 1) := dk_27 (dk_at dksX3_pops_0 21 rfl rfl)
theorem dX3_pops_22 : decode cX3_pops 22 = .ok (.if_icmp .lt 32, 3) := dk_161 0 32 (dk_at dksX3_pops_1 0 rfl rfl)
theorem dX3_pops_25 : decode cX3_pops 25 = .ok (.aload_n 0, 1) := dk_42 (dk_at dksX3_pops_1 3 rfl rfl)
theorem dX3_pops_26 : decode cX3_pops 26 = .ok (.dup, 1) := dk_89 (dk_at dksX3_pops_1 4 rfl rfl)
theorem dX3_pops_27 : decode cX3_pops 27 = .ok (.getfield 359, 3) := dk_180 1 103 (dk_at dksX3_pops_1 5 rfl rfl)
theorem dX3_pops_30 : decode cX3_pops 30 = .ok (.iconst 1, 1) := dk_4 (dk_at dksX3_pops_1 8 rfl rfl)
theorem dX3_pops_31 : decode cX3_pops 31 = .ok (.isub, 1) := dk_100 (dk_at dksX3_pops_1 9 rfl rfl)
theorem dX3_pops_32 : decode cX3_pops 32 = .ok (.putfield 359, 3) := dk_181 1 103 (dk_at dksX3_pops_1 10 rfl rfl)
theorem dX3_pops_35 : decode cX3_pops 35 = .ok (.aload_n 0, 1) := dk_42 (dk_at dksX3_pops_1 13 rfl rfl)
theorem dX3_pops_36 : decode cX3_pops 36 = .ok (.bipush (-100), 2) := dk_16 156 (dk_at dksX3_pops_1 14 rfl rfl)
theorem dX3_pops_38 : decode cX3_pops 38 = .ok (.aload_n 0, 1) := dk_42 (dk_at dksX3_pops_1 16 rfl rfl)
theorem dX3_pops_39 : decode cX3_pops 39 = .ok (.getfield 95, 3) := dk_180 0 95 (dk_at dksX3_pops_1 17 rfl rfl)
theorem dX3_pops_42 : decode cX3_pops 42 = .ok (.aload_n 0, 1) := dk_42 (dk_at dksX3_pops_1 20 rfl rfl)
theorem dX3_pops_43 : decode cX3_pops 43 = .ok (.getfield 359, 3) := dk_180 1 103 (dk_at dksX3_pops_1 21 rfl rfl)
theorem dX3_pops_46 : decode cX3_pops 46 = .ok (.iaload, 1) := dk_46 (dk_at dksX3_pops_2 0 rfl rfl)
theorem dX3_pops_47 : decode cX3_pops 47 = .ok (.isub, 1) := dk_100 (dk_at dksX3_pops_2 1 rfl rfl)
theorem dX3_pops_48 : decode cX3_pops 48 = .ok (.invokevirtual 365, 3) := dk_182 1 109 (dk_at dksX3_pops_2 2 rfl rfl)
theorem dX3_pops_51 : decode cX3_pops 51 = .ok (.goto (-51), 3) := dk_167 255 205 (dk_at dksX3_pops_2 5 rfl rfl)
theorem dX3_pops_54 : decode cX3_pops 54 = .ok (.return_, 1) := dk_177 (dk_at dksX3_pops_2 8 rfl rfl)
abbrev cX3_readTest : ByteArray := prog_26_method_56_code
def yX3_readTest : MethodName := ⟨RX3, "readTest", "()V"⟩
def dkwX3_readTest_4 : List UInt8 := [182, 1, 113, 167, 255, 166, 177]
abbrev dktX3_readTest_4 : List UInt8 := dkwX3_readTest_4 ++ []
def dkwX3_readTest_3 : List UInt8 := [153, 0, 10, 42, 17, 255, 32, 182, 1, 109, 42, 7, 182, 1, 122, 60, 27, 61, 27, 153, 0, 7, 42]
abbrev dktX3_readTest_3 : List UInt8 := dkwX3_readTest_3 ++ dktX3_readTest_4
def dkwX3_readTest_2 : List UInt8 := [182, 1, 109, 42, 8, 182, 1, 122, 62, 29, 54, 4, 29, 153, 255, 219, 42, 182, 1, 113, 167, 255, 212, 27]
abbrev dktX3_readTest_2 : List UInt8 := dkwX3_readTest_2 ++ dktX3_readTest_3
def dkwX3_readTest_1 : List UInt8 := [153, 0, 45, 42, 180, 1, 52, 154, 0, 38, 42, 182, 1, 128, 29, 153, 0, 10, 42, 17, 255, 118]
abbrev dktX3_readTest_1 : List UInt8 := dkwX3_readTest_1 ++ dktX3_readTest_2
def dkwX3_readTest_0 : List UInt8 := [3, 60, 4, 61, 28, 153, 0, 92, 42, 180, 1, 52, 154, 0, 85, 3, 62, 4, 54, 4, 21, 4]
abbrev dktX3_readTest_0 : List UInt8 := dkwX3_readTest_0 ++ dktX3_readTest_1
theorem dksX3_readTest_0 : cX3_readTest.data.toList.drop 0 = dktX3_readTest_0 := by decide +kernel
theorem dksX3_readTest_1 : cX3_readTest.data.toList.drop 22 = dktX3_readTest_1 := dk_seg dksX3_readTest_0 22 rfl rfl
theorem dksX3_readTest_2 : cX3_readTest.data.toList.drop 44 = dktX3_readTest_2 := dk_seg dksX3_readTest_1 22 rfl rfl
theorem dksX3_readTest_3 : cX3_readTest.data.toList.drop 68 = dktX3_readTest_3 := dk_seg dksX3_readTest_2 24 rfl rfl
theorem dksX3_readTest_4 : cX3_readTest.data.toList.drop 91 = dktX3_readTest_4 := dk_seg dksX3_readTest_3 23 rfl rfl
theorem dX3_readTest_0 : decode cX3_readTest 0 = .ok (.iconst 0, 1) := dk_3 (dk_at dksX3_readTest_0 0 rfl rfl)
theorem dX3_readTest_1 : decode cX3_readTest 1 = .ok (.istore_n 1, 1) := dk_60 (dk_at dksX3_readTest_0 1 rfl rfl)
theorem dX3_readTest_2 : decode cX3_readTest 2 = .ok (.iconst 1, 1) := dk_4 (dk_at dksX3_readTest_0 2 rfl rfl)
theorem dX3_readTest_3 : decode cX3_readTest 3 = .ok (.istore_n 2, 1) := dk_61 (dk_at dksX3_readTest_0 3 rfl rfl)
theorem dX3_readTest_4 : decode cX3_readTest 4 = .ok (.iload_n 2, 1) := dk_28 (dk_at dksX3_readTest_0 4 rfl rfl)
theorem dX3_readTest_5 : decode cX3_readTest 5 = .ok (.ifCond .eq 92, 3) := dk_153 0 92 (dk_at dksX3_readTest_0 5 rfl rfl)
theorem dX3_readTest_8 : decode cX3_readTest 8 = .ok (.aload_n 0, 1) := dk_42 (dk_at dksX3_readTest_0 8 rfl rfl)
theorem dX3_readTest_9 : decode cX3_readTest 9 = .ok (.getfield 308, 3) := dk_180 1 52 (dk_at dksX3_readTest_0 9 rfl rfl)
theorem dX3_readTest_12 : decode cX3_readTest 12 = .ok (.ifCond .ne 85, 3) := dk_154 0 85 (dk_at dksX3_readTest_0 12 rfl rfl)
theorem dX3_readTest_15 : decode cX3_readTest 15 = .ok (.iconst 0, 1) := dk_3 (dk_at dksX3_readTest_0 15 rfl rfl)
theorem dX3_readTest_16 : decode cX3_readTest 16 = .ok (.istore_n 3, 1) := dk_62 (dk_at dksX3_readTest_0 16 rfl rfl)
theorem dX3_readTest_17 : decode cX3_readTest 17 = .ok (.iconst 1, 1) := dk_4 (dk_at dksX3_readTest_0 17 rfl rfl)
theorem dX3_readTest_18 : decode cX3_readTest 18 = .ok (.istore 4, 2) := dk_54 4 (dk_at dksX3_readTest_0 18 rfl rfl)
theorem dX3_readTest_20 : decode cX3_readTest 20 = .ok (.iload 4, 2) := dk_21 4 (dk_at dksX3_readTest_0 20 rfl rfl)
theorem dX3_readTest_22 : decode cX3_readTest 22 = .ok (.ifCond .eq 45, 3) := dk_153 0 45 (dk_at dksX3_readTest_1 0 rfl rfl)
theorem dX3_readTest_25 : decode cX3_readTest 25 = .ok (.aload_n 0, 1) := dk_42 (dk_at dksX3_readTest_1 3 rfl rfl)
theorem dX3_readTest_26 : decode cX3_readTest 26 = .ok (.getfield 308, 3) := dk_180 1 52 (dk_at dksX3_readTest_1 4 rfl rfl)
theorem dX3_readTest_29 : decode cX3_readTest 29 = .ok (.ifCond .ne 38, 3) := dk_154 0 38 (dk_at dksX3_readTest_1 7 rfl rfl)
theorem dX3_readTest_32 : decode cX3_readTest 32 = .ok (.aload_n 0, 1) := dk_42 (dk_at dksX3_readTest_1 10 rfl rfl)
theorem dX3_readTest_33 : decode cX3_readTest 33 = .ok (.invokevirtual 384, 3) := dk_182 1 128 (dk_at dksX3_readTest_1 11 rfl rfl)
theorem dX3_readTest_36 : decode cX3_readTest 36 = .ok (.iload_n 3, 1) := dk_29 (dk_at dksX3_readTest_1 14 rfl rfl)
theorem dX3_readTest_37 : decode cX3_readTest 37 = .ok (.ifCond .eq 10, 3) := dk_153 0 10 (dk_at dksX3_readTest_1 15 rfl rfl)
theorem dX3_readTest_40 : decode cX3_readTest 40 = .ok (.aload_n 0, 1) := dk_42 (dk_at dksX3_readTest_1 18 rfl rfl)
theorem dX3_readTest_41 : decode cX3_readTest 41 = .ok (.sipush (-138), 3) := dk_17 255 118 (dk_at dksX3_readTest_1 19 rfl rfl)
theorem dX3_readTest_44 : decode cX3_readTest 44 = .ok (.invokevirtual 365, 3) := dk_182 1 109 (dk_at dksX3_readTest_2 0 rfl rfl)
theorem dX3_readTest_47 : decode cX3_readTest 47 = .ok (.aload_n 0, 1) := dk_42 (dk_at dksX3_readTest_2 3 rfl rfl)
theorem dX3_readTest_48 : decode cX3_readTest 48 = .ok (.iconst 5, 1) := dk_8 (dk_at dksX3_readTest_2 4 rfl rfl)
theorem dX3_readTest_49 : decode cX3_readTest 49 = .ok (.invokevirtual 378, 3) := dk_182 1 122 (dk_at dksX3_readTest_2 5 rfl rfl)
theorem dX3_readTest_52 : decode cX3_readTest 52 = .ok (.istore_n 3, 1) := dk_62 (dk_at dksX3_readTest_2 8 rfl rfl)
theorem dX3_readTest_53 : decode cX3_readTest 53 = .ok (.iload_n 3, 1) := dk_29 (dk_at dksX3_readTest_2 9 rfl rfl)
theorem dX3_readTest_54 : decode cX3_readTest 54 = .ok (.istore 4, 2) := dk_54 4 (dk_at dksX3_readTest_2 10 rfl rfl)
theorem dX3_readTest_56 : decode cX3_readTest 56 = .ok (.iload_n 3, 1) := dk_29 (dk_at dksX3_readTest_2 12 rfl rfl)
theorem dX3_readTest_57 : decode cX3_readTest 57 = .ok (.ifCond .eq (-37), 3) := dk_153 255 219 (dk_at dksX3_readTest_2 13 rfl rfl)
theorem dX3_readTest_60 : decode cX3_readTest 60 = .ok (.aload_n 0, 1) := dk_42 (dk_at dksX3_readTest_2 16 rfl rfl)
theorem dX3_readTest_61 : decode cX3_readTest 61 = .ok (.invokevirtual 369, 3) := dk_182 1 113 (dk_at dksX3_readTest_2 17 rfl rfl)
theorem dX3_readTest_64 : decode cX3_readTest 64 = .ok (.goto (-44), 3) := dk_167 255 212 (dk_at dksX3_readTest_2 20 rfl rfl)
theorem dX3_readTest_67 : decode cX3_readTest 67 = .ok (.iload_n 1, 1) := dk_27 (dk_at dksX3_readTest_2 23 rfl rfl)
theorem dX3_readTest_68 : decode cX3_readTest 68 = .ok (.ifCond .eq 10, 3) := dk_153 0 10 (dk_at dksX3_readTest_3 0 rfl rfl)
theorem dX3_readTest_71 : decode cX3_readTest 71 = .ok (.aload_n 0, 1) := dk_42 (dk_at dksX3_readTest_3 3 rfl rfl)
theorem dX3_readTest_72 : decode cX3_readTest 72 = .ok (.sipush (-224), 3) := dk_17 255 32 (dk_at dksX3_readTest_3 4 rfl rfl)
theorem dX3_readTest_75 : decode cX3_readTest 75 = .ok (.invokevirtual 365, 3) := dk_182 1 109 (dk_at dksX3_readTest_3 7 rfl rfl)
theorem dX3_readTest_78 : decode cX3_readTest 78 = .ok (.aload_n 0, 1) := dk_42 (dk_at dksX3_readTest_3 10 rfl rfl)
theorem dX3_readTest_79 : decode cX3_readTest 79 = .ok (.iconst 4, 1) := dk_7 (dk_at dksX3_readTest_3 11 rfl rfl)
theorem dX3_readTest_80 : decode cX3_readTest 80 = .ok (.invokevirtual 378, 3) := dk_182 1 122 (dk_at dksX3_readTest_3 12 rfl rfl)
theorem dX3_readTest_83 : decode cX3_readTest 83 = .ok (.istore_n 1, 1) := dk_60 (dk_at dksX3_readTest_3 15 rfl rfl)
theorem dX3_readTest_84 : decode cX3_readTest 84 = .ok (.iload_n 1, 1) := dk_27 (dk_at dksX3_readTest_3 16 rfl rfl)
theorem dX3_readTest_85 : decode cX3_readTest 85 = .ok (.istore_n 2, 1) := dk_61 (dk_at dksX3_readTest_3 17 rfl rfl)
theorem dX3_readTest_86 : decode cX3_readTest 86 = .ok (.iload_n 1, 1) := dk_27 (dk_at dksX3_readTest_3 18 rfl rfl)
theorem dX3_readTest_87 : decode cX3_readTest 87 = .ok (.ifCond .eq 7, 3) := dk_153 0 7 (dk_at dksX3_readTest_3 19 rfl rfl)
theorem dX3_readTest_90 : decode cX3_readTest 90 = .ok (.aload_n 0, 1) := dk_42 (dk_at dksX3_readTest_3 22 rfl rfl)
theorem dX3_readTest_91 : decode cX3_readTest 91 = .ok (.invokevirtual 369, 3) := dk_182 1 113 (dk_at dksX3_readTest_4 0 rfl rfl)
theorem dX3_readTest_94 : decode cX3_readTest 94 = .ok (.goto (-90), 3) := dk_167 255 166 (dk_at dksX3_readTest_4 3 rfl rfl)
theorem dX3_readTest_97 : decode cX3_readTest 97 = .ok (.return_, 1) := dk_177 (dk_at dksX3_readTest_4 6 rfl rfl)
abbrev cX3_readOne : ByteArray := prog_26_method_55_code
def yX3_readOne : MethodName := ⟨RX3, "readOne", "()V"⟩
def dkwX3_readOne_4 : List UInt8 := [100, 182, 1, 109, 27, 5, 112, 4, 160, 0, 10, 42, 17, 255, 123, 182, 1, 109, 177]
abbrev dktX3_readOne_4 : List UInt8 := dkwX3_readOne_4 ++ []
def dkwX3_readOne_3 : List UInt8 := [42, 180, 1, 89, 61, 42, 182, 1, 113, 42, 180, 1, 52, 154, 0, 29, 42, 182, 1, 125, 42, 16, 156, 28]
abbrev dktX3_readOne_3 : List UInt8 := dkwX3_readOne_3 ++ dktX3_readOne_4
def dkwX3_readOne_2 : List UInt8 := [182, 1, 106, 154, 0, 12, 42, 16, 61, 182, 1, 106, 153, 0, 7, 4, 167, 0, 4, 3, 5, 182, 1, 92]
abbrev dktX3_readOne_2 : List UInt8 := dkwX3_readOne_2 ++ dktX3_readOne_3
def dkwX3_readOne_1 : List UInt8 := [182, 1, 113, 167, 255, 233, 42, 182, 1, 125, 42, 42, 16, 60, 182, 1, 106, 154, 0, 21, 42, 16, 62]
abbrev dktX3_readOne_1 : List UInt8 := dkwX3_readOne_1 ++ dktX3_readOne_2
def dkwX3_readOne_0 : List UInt8 := [3, 60, 42, 16, 6, 182, 1, 122, 153, 0, 20, 42, 180, 1, 52, 154, 0, 13, 132, 1, 1, 42]
abbrev dktX3_readOne_0 : List UInt8 := dkwX3_readOne_0 ++ dktX3_readOne_1
theorem dksX3_readOne_0 : cX3_readOne.data.toList.drop 0 = dktX3_readOne_0 := by decide +kernel
theorem dksX3_readOne_1 : cX3_readOne.data.toList.drop 22 = dktX3_readOne_1 := dk_seg dksX3_readOne_0 22 rfl rfl
theorem dksX3_readOne_2 : cX3_readOne.data.toList.drop 45 = dktX3_readOne_2 := dk_seg dksX3_readOne_1 23 rfl rfl
theorem dksX3_readOne_3 : cX3_readOne.data.toList.drop 69 = dktX3_readOne_3 := dk_seg dksX3_readOne_2 24 rfl rfl
theorem dksX3_readOne_4 : cX3_readOne.data.toList.drop 93 = dktX3_readOne_4 := dk_seg dksX3_readOne_3 24 rfl rfl
theorem dX3_readOne_0 : decode cX3_readOne 0 = .ok (.iconst 0, 1) := dk_3 (dk_at dksX3_readOne_0 0 rfl rfl)
theorem dX3_readOne_1 : decode cX3_readOne 1 = .ok (.istore_n 1, 1) := dk_60 (dk_at dksX3_readOne_0 1 rfl rfl)
theorem dX3_readOne_2 : decode cX3_readOne 2 = .ok (.aload_n 0, 1) := dk_42 (dk_at dksX3_readOne_0 2 rfl rfl)
theorem dX3_readOne_3 : decode cX3_readOne 3 = .ok (.bipush 6, 2) := dk_16 6 (dk_at dksX3_readOne_0 3 rfl rfl)
theorem dX3_readOne_5 : decode cX3_readOne 5 = .ok (.invokevirtual 378, 3) := dk_182 1 122 (dk_at dksX3_readOne_0 5 rfl rfl)
theorem dX3_readOne_8 : decode cX3_readOne 8 = .ok (.ifCond .eq 20, 3) := dk_153 0 20 (dk_at dksX3_readOne_0 8 rfl rfl)
theorem dX3_readOne_11 : decode cX3_readOne 11 = .ok (.aload_n 0, 1) := dk_42 (dk_at dksX3_readOne_0 11 rfl rfl)
theorem dX3_readOne_12 : decode cX3_readOne 12 = .ok (.getfield 308, 3) := dk_180 1 52 (dk_at dksX3_readOne_0 12 rfl rfl)
theorem dX3_readOne_15 : decode cX3_readOne 15 = .ok (.ifCond .ne 13, 3) := dk_154 0 13 (dk_at dksX3_readOne_0 15 rfl rfl)
theorem dX3_readOne_18 : decode cX3_readOne 18 = .ok (.iinc 1 1, 3) := dk_132 1 1 (dk_at dksX3_readOne_0 18 rfl rfl)
theorem dX3_readOne_21 : decode cX3_readOne 21 = .ok (.aload_n 0, 1) := dk_42 (dk_at dksX3_readOne_0 21 rfl rfl)
theorem dX3_readOne_22 : decode cX3_readOne 22 = .ok (.invokevirtual 369, 3) := dk_182 1 113 (dk_at dksX3_readOne_1 0 rfl rfl)
theorem dX3_readOne_25 : decode cX3_readOne 25 = .ok (.goto (-23), 3) := dk_167 255 233 (dk_at dksX3_readOne_1 3 rfl rfl)
theorem dX3_readOne_28 : decode cX3_readOne 28 = .ok (.aload_n 0, 1) := dk_42 (dk_at dksX3_readOne_1 6 rfl rfl)
theorem dX3_readOne_29 : decode cX3_readOne 29 = .ok (.invokevirtual 381, 3) := dk_182 1 125 (dk_at dksX3_readOne_1 7 rfl rfl)
theorem dX3_readOne_32 : decode cX3_readOne 32 = .ok (.aload_n 0, 1) := dk_42 (dk_at dksX3_readOne_1 10 rfl rfl)
theorem dX3_readOne_33 : decode cX3_readOne 33 = .ok (.aload_n 0, 1) := dk_42 (dk_at dksX3_readOne_1 11 rfl rfl)
theorem dX3_readOne_34 : decode cX3_readOne 34 = .ok (.bipush 60, 2) := dk_16 60 (dk_at dksX3_readOne_1 12 rfl rfl)
theorem dX3_readOne_36 : decode cX3_readOne 36 = .ok (.invokevirtual 362, 3) := dk_182 1 106 (dk_at dksX3_readOne_1 14 rfl rfl)
theorem dX3_readOne_39 : decode cX3_readOne 39 = .ok (.ifCond .ne 21, 3) := dk_154 0 21 (dk_at dksX3_readOne_1 17 rfl rfl)
theorem dX3_readOne_42 : decode cX3_readOne 42 = .ok (.aload_n 0, 1) := dk_42 (dk_at dksX3_readOne_1 20 rfl rfl)
theorem dX3_readOne_43 : decode cX3_readOne 43 = .ok (.bipush 62, 2) := dk_16 62 (dk_at dksX3_readOne_1 21 rfl rfl)
theorem dX3_readOne_45 : decode cX3_readOne 45 = .ok (.invokevirtual 362, 3) := dk_182 1 106 (dk_at dksX3_readOne_2 0 rfl rfl)
theorem dX3_readOne_48 : decode cX3_readOne 48 = .ok (.ifCond .ne 12, 3) := dk_154 0 12 (dk_at dksX3_readOne_2 3 rfl rfl)
theorem dX3_readOne_51 : decode cX3_readOne 51 = .ok (.aload_n 0, 1) := dk_42 (dk_at dksX3_readOne_2 6 rfl rfl)
theorem dX3_readOne_52 : decode cX3_readOne 52 = .ok (.bipush 61, 2) := dk_16 61 (dk_at dksX3_readOne_2 7 rfl rfl)
theorem dX3_readOne_54 : decode cX3_readOne 54 = .ok (.invokevirtual 362, 3) := dk_182 1 106 (dk_at dksX3_readOne_2 9 rfl rfl)
theorem dX3_readOne_57 : decode cX3_readOne 57 = .ok (.ifCond .eq 7, 3) := dk_153 0 7 (dk_at dksX3_readOne_2 12 rfl rfl)
theorem dX3_readOne_60 : decode cX3_readOne 60 = .ok (.iconst 1, 1) := dk_4 (dk_at dksX3_readOne_2 15 rfl rfl)
theorem dX3_readOne_61 : decode cX3_readOne 61 = .ok (.goto 4, 3) := dk_167 0 4 (dk_at dksX3_readOne_2 16 rfl rfl)
theorem dX3_readOne_64 : decode cX3_readOne 64 = .ok (.iconst 0, 1) := dk_3 (dk_at dksX3_readOne_2 19 rfl rfl)
theorem dX3_readOne_65 : decode cX3_readOne 65 = .ok (.iconst 2, 1) := dk_5 (dk_at dksX3_readOne_2 20 rfl rfl)
theorem dX3_readOne_66 : decode cX3_readOne 66 = .ok (.invokevirtual 348, 3) := dk_182 1 92 (dk_at dksX3_readOne_2 21 rfl rfl)
theorem dX3_readOne_69 : decode cX3_readOne 69 = .ok (.aload_n 0, 1) := dk_42 (dk_at dksX3_readOne_3 0 rfl rfl)
theorem dX3_readOne_70 : decode cX3_readOne 70 = .ok (.getfield 345, 3) := dk_180 1 89 (dk_at dksX3_readOne_3 1 rfl rfl)
theorem dX3_readOne_73 : decode cX3_readOne 73 = .ok (.istore_n 2, 1) := dk_61 (dk_at dksX3_readOne_3 4 rfl rfl)
theorem dX3_readOne_74 : decode cX3_readOne 74 = .ok (.aload_n 0, 1) := dk_42 (dk_at dksX3_readOne_3 5 rfl rfl)
theorem dX3_readOne_75 : decode cX3_readOne 75 = .ok (.invokevirtual 369, 3) := dk_182 1 113 (dk_at dksX3_readOne_3 6 rfl rfl)
theorem dX3_readOne_78 : decode cX3_readOne 78 = .ok (.aload_n 0, 1) := dk_42 (dk_at dksX3_readOne_3 9 rfl rfl)
theorem dX3_readOne_79 : decode cX3_readOne 79 = .ok (.getfield 308, 3) := dk_180 1 52 (dk_at dksX3_readOne_3 10 rfl rfl)
theorem dX3_readOne_82 : decode cX3_readOne 82 = .ok (.ifCond .ne 29, 3) := dk_154 0 29 (dk_at dksX3_readOne_3 13 rfl rfl)
theorem dX3_readOne_85 : decode cX3_readOne 85 = .ok (.aload_n 0, 1) := dk_42 (dk_at dksX3_readOne_3 16 rfl rfl)
theorem dX3_readOne_86 : decode cX3_readOne 86 = .ok (.invokevirtual 381, 3) := dk_182 1 125 (dk_at dksX3_readOne_3 17 rfl rfl)
theorem dX3_readOne_89 : decode cX3_readOne 89 = .ok (.aload_n 0, 1) := dk_42 (dk_at dksX3_readOne_3 20 rfl rfl)
theorem dX3_readOne_90 : decode cX3_readOne 90 = .ok (.bipush (-100), 2) := dk_16 156 (dk_at dksX3_readOne_3 21 rfl rfl)
theorem dX3_readOne_92 : decode cX3_readOne 92 = .ok (.iload_n 2, 1) := dk_28 (dk_at dksX3_readOne_3 23 rfl rfl)
theorem dX3_readOne_93 : decode cX3_readOne 93 = .ok (.isub, 1) := dk_100 (dk_at dksX3_readOne_4 0 rfl rfl)
theorem dX3_readOne_94 : decode cX3_readOne 94 = .ok (.invokevirtual 365, 3) := dk_182 1 109 (dk_at dksX3_readOne_4 1 rfl rfl)
theorem dX3_readOne_97 : decode cX3_readOne 97 = .ok (.iload_n 1, 1) := dk_27 (dk_at dksX3_readOne_4 4 rfl rfl)
theorem dX3_readOne_98 : decode cX3_readOne 98 = .ok (.iconst 2, 1) := dk_5 (dk_at dksX3_readOne_4 5 rfl rfl)
theorem dX3_readOne_99 : decode cX3_readOne 99 = .ok (.irem, 1) := dk_112 (dk_at dksX3_readOne_4 6 rfl rfl)
theorem dX3_readOne_100 : decode cX3_readOne 100 = .ok (.iconst 1, 1) := dk_4 (dk_at dksX3_readOne_4 7 rfl rfl)
theorem dX3_readOne_101 : decode cX3_readOne 101 = .ok (.if_icmp .ne 10, 3) := dk_160 0 10 (dk_at dksX3_readOne_4 8 rfl rfl)
theorem dX3_readOne_104 : decode cX3_readOne 104 = .ok (.aload_n 0, 1) := dk_42 (dk_at dksX3_readOne_4 11 rfl rfl)
theorem dX3_readOne_105 : decode cX3_readOne 105 = .ok (.sipush (-133), 3) := dk_17 255 123 (dk_at dksX3_readOne_4 12 rfl rfl)
theorem dX3_readOne_108 : decode cX3_readOne 108 = .ok (.invokevirtual 365, 3) := dk_182 1 109 (dk_at dksX3_readOne_4 15 rfl rfl)
theorem dX3_readOne_111 : decode cX3_readOne 111 = .ok (.return_, 1) := dk_177 (dk_at dksX3_readOne_4 18 rfl rfl)
abbrev cX3_isName : ByteArray := prog_26_method_50_code
def yX3_isName : MethodName := ⟨RX3, "isName", "(I)Z"⟩
def dkwX3_isName_0 : List UInt8 := [42, 180, 1, 79, 4, 160, 0, 15, 42, 180, 1, 89, 27, 160, 0, 7, 4, 167, 0, 4, 3, 172]
abbrev dktX3_isName_0 : List UInt8 := dkwX3_isName_0 ++ []
theorem dksX3_isName_0 : cX3_isName.data.toList.drop 0 = dktX3_isName_0 := by decide +kernel
theorem dX3_isName_0 : decode cX3_isName 0 = .ok (.aload_n 0, 1) := dk_42 (dk_at dksX3_isName_0 0 rfl rfl)
theorem dX3_isName_1 : decode cX3_isName 1 = .ok (.getfield 335, 3) := dk_180 1 79 (dk_at dksX3_isName_0 1 rfl rfl)
theorem dX3_isName_4 : decode cX3_isName 4 = .ok (.iconst 1, 1) := dk_4 (dk_at dksX3_isName_0 4 rfl rfl)
theorem dX3_isName_5 : decode cX3_isName 5 = .ok (.if_icmp .ne 15, 3) := dk_160 0 15 (dk_at dksX3_isName_0 5 rfl rfl)
theorem dX3_isName_8 : decode cX3_isName 8 = .ok (.aload_n 0, 1) := dk_42 (dk_at dksX3_isName_0 8 rfl rfl)
theorem dX3_isName_9 : decode cX3_isName 9 = .ok (.getfield 345, 3) := dk_180 1 89 (dk_at dksX3_isName_0 9 rfl rfl)
theorem dX3_isName_12 : decode cX3_isName 12 = .ok (.iload_n 1, 1) := dk_27 (dk_at dksX3_isName_0 12 rfl rfl)
theorem dX3_isName_13 : decode cX3_isName 13 = .ok (.if_icmp .ne 7, 3) := dk_160 0 7 (dk_at dksX3_isName_0 13 rfl rfl)
theorem dX3_isName_16 : decode cX3_isName 16 = .ok (.iconst 1, 1) := dk_4 (dk_at dksX3_isName_0 16 rfl rfl)
theorem dX3_isName_17 : decode cX3_isName 17 = .ok (.goto 4, 3) := dk_167 0 4 (dk_at dksX3_isName_0 17 rfl rfl)
theorem dX3_isName_20 : decode cX3_isName 20 = .ok (.iconst 0, 1) := dk_3 (dk_at dksX3_isName_0 20 rfl rfl)
theorem dX3_isName_21 : decode cX3_isName 21 = .ok (.ireturn, 1) := dk_172 (dk_at dksX3_isName_0 21 rfl rfl)
abbrev cX3_fault : ByteArray := prog_26_method_59_code
def yX3_fault : MethodName := ⟨RX3, "fault", "()I"⟩
theorem dX3_fault_0 : decode cX3_fault 0 = .ok (.aload_n 0, 1) := by decide +kernel
theorem dX3_fault_1 : decode cX3_fault 1 = .ok (.getfield 308, 3) := by decide +kernel
theorem dX3_fault_4 : decode cX3_fault 4 = .ok (.ireturn, 1) := by decide +kernel
abbrev cX3_why : ByteArray := prog_26_method_65_code
def yX3_why : MethodName := ⟨RX3, "why", "(III)I"⟩
def dkwX3_why_0 : List UInt8 := [42, 27, 28, 29, 182, 1, 157, 153, 0, 10, 42, 182, 1, 160, 167, 0, 4, 2, 172]
abbrev dktX3_why_0 : List UInt8 := dkwX3_why_0 ++ []
theorem dksX3_why_0 : cX3_why.data.toList.drop 0 = dktX3_why_0 := by decide +kernel
theorem dX3_why_0 : decode cX3_why 0 = .ok (.aload_n 0, 1) := dk_42 (dk_at dksX3_why_0 0 rfl rfl)
theorem dX3_why_1 : decode cX3_why 1 = .ok (.iload_n 1, 1) := dk_27 (dk_at dksX3_why_0 1 rfl rfl)
theorem dX3_why_2 : decode cX3_why 2 = .ok (.iload_n 2, 1) := dk_28 (dk_at dksX3_why_0 2 rfl rfl)
theorem dX3_why_3 : decode cX3_why 3 = .ok (.iload_n 3, 1) := dk_29 (dk_at dksX3_why_0 3 rfl rfl)
theorem dX3_why_4 : decode cX3_why 4 = .ok (.invokevirtual 413, 3) := dk_182 1 157 (dk_at dksX3_why_0 4 rfl rfl)
theorem dX3_why_7 : decode cX3_why 7 = .ok (.ifCond .eq 10, 3) := dk_153 0 10 (dk_at dksX3_why_0 7 rfl rfl)
theorem dX3_why_10 : decode cX3_why 10 = .ok (.aload_n 0, 1) := dk_42 (dk_at dksX3_why_0 10 rfl rfl)
theorem dX3_why_11 : decode cX3_why 11 = .ok (.invokevirtual 416, 3) := dk_182 1 160 (dk_at dksX3_why_0 11 rfl rfl)
theorem dX3_why_14 : decode cX3_why 14 = .ok (.goto 4, 3) := dk_167 0 4 (dk_at dksX3_why_0 14 rfl rfl)
theorem dX3_why_17 : decode cX3_why 17 = .ok (.iconst (-1), 1) := dk_2 (dk_at dksX3_why_0 17 rfl rfl)
theorem dX3_why_18 : decode cX3_why 18 = .ok (.ireturn, 1) := dk_172 (dk_at dksX3_why_0 18 rfl rfl)
abbrev cX3_isAsked : ByteArray := prog_26_method_63_code
def yX3_isAsked : MethodName := ⟨RX3, "isAsked", "(III)Z"⟩
def dkwX3_isAsked_1 : List UInt8 := [20, 0, 224, 184, 0, 214, 154, 0, 5, 3, 172, 42, 27, 28, 29, 182, 1, 150, 4, 172]
abbrev dktX3_isAsked_1 : List UInt8 := dkwX3_isAsked_1 ++ []
def dkwX3_isAsked_0 : List UInt8 := [42, 27, 182, 0, 241, 153, 0, 27, 28, 133, 9, 20, 1, 19, 184, 0, 214, 153, 0, 15, 29, 133, 10]
abbrev dktX3_isAsked_0 : List UInt8 := dkwX3_isAsked_0 ++ dktX3_isAsked_1
theorem dksX3_isAsked_0 : cX3_isAsked.data.toList.drop 0 = dktX3_isAsked_0 := by decide +kernel
theorem dksX3_isAsked_1 : cX3_isAsked.data.toList.drop 23 = dktX3_isAsked_1 := dk_seg dksX3_isAsked_0 23 rfl rfl
theorem dX3_isAsked_0 : decode cX3_isAsked 0 = .ok (.aload_n 0, 1) := dk_42 (dk_at dksX3_isAsked_0 0 rfl rfl)
theorem dX3_isAsked_1 : decode cX3_isAsked 1 = .ok (.iload_n 1, 1) := dk_27 (dk_at dksX3_isAsked_0 1 rfl rfl)
theorem dX3_isAsked_2 : decode cX3_isAsked 2 = .ok (.invokevirtual 241, 3) := dk_182 0 241 (dk_at dksX3_isAsked_0 2 rfl rfl)
theorem dX3_isAsked_5 : decode cX3_isAsked 5 = .ok (.ifCond .eq 27, 3) := dk_153 0 27 (dk_at dksX3_isAsked_0 5 rfl rfl)
theorem dX3_isAsked_8 : decode cX3_isAsked 8 = .ok (.iload_n 2, 1) := dk_28 (dk_at dksX3_isAsked_0 8 rfl rfl)
theorem dX3_isAsked_9 : decode cX3_isAsked 9 = .ok (.i2l, 1) := dk_133 (dk_at dksX3_isAsked_0 9 rfl rfl)
theorem dX3_isAsked_10 : decode cX3_isAsked 10 = .ok (.lconst 0, 1) := dk_9 (dk_at dksX3_isAsked_0 10 rfl rfl)
theorem dX3_isAsked_11 : decode cX3_isAsked 11 = .ok (.ldc2_w 275, 3) := dk_20 1 19 (dk_at dksX3_isAsked_0 11 rfl rfl)
theorem dX3_isAsked_14 : decode cX3_isAsked 14 = .ok (.invokestatic 214, 3) := dk_184 0 214 (dk_at dksX3_isAsked_0 14 rfl rfl)
theorem dX3_isAsked_17 : decode cX3_isAsked 17 = .ok (.ifCond .eq 15, 3) := dk_153 0 15 (dk_at dksX3_isAsked_0 17 rfl rfl)
theorem dX3_isAsked_20 : decode cX3_isAsked 20 = .ok (.iload_n 3, 1) := dk_29 (dk_at dksX3_isAsked_0 20 rfl rfl)
theorem dX3_isAsked_21 : decode cX3_isAsked 21 = .ok (.i2l, 1) := dk_133 (dk_at dksX3_isAsked_0 21 rfl rfl)
theorem dX3_isAsked_22 : decode cX3_isAsked 22 = .ok (.lconst 1, 1) := dk_10 (dk_at dksX3_isAsked_0 22 rfl rfl)
theorem dX3_isAsked_23 : decode cX3_isAsked 23 = .ok (.ldc2_w 224, 3) := dk_20 0 224 (dk_at dksX3_isAsked_1 0 rfl rfl)
theorem dX3_isAsked_26 : decode cX3_isAsked 26 = .ok (.invokestatic 214, 3) := dk_184 0 214 (dk_at dksX3_isAsked_1 3 rfl rfl)
theorem dX3_isAsked_29 : decode cX3_isAsked 29 = .ok (.ifCond .ne 5, 3) := dk_154 0 5 (dk_at dksX3_isAsked_1 6 rfl rfl)
theorem dX3_isAsked_32 : decode cX3_isAsked 32 = .ok (.iconst 0, 1) := dk_3 (dk_at dksX3_isAsked_1 9 rfl rfl)
theorem dX3_isAsked_33 : decode cX3_isAsked 33 = .ok (.ireturn, 1) := dk_172 (dk_at dksX3_isAsked_1 10 rfl rfl)
theorem dX3_isAsked_34 : decode cX3_isAsked 34 = .ok (.aload_n 0, 1) := dk_42 (dk_at dksX3_isAsked_1 11 rfl rfl)
theorem dX3_isAsked_35 : decode cX3_isAsked 35 = .ok (.iload_n 1, 1) := dk_27 (dk_at dksX3_isAsked_1 12 rfl rfl)
theorem dX3_isAsked_36 : decode cX3_isAsked 36 = .ok (.iload_n 2, 1) := dk_28 (dk_at dksX3_isAsked_1 13 rfl rfl)
theorem dX3_isAsked_37 : decode cX3_isAsked 37 = .ok (.iload_n 3, 1) := dk_29 (dk_at dksX3_isAsked_1 14 rfl rfl)
theorem dX3_isAsked_38 : decode cX3_isAsked 38 = .ok (.invokevirtual 406, 3) := dk_182 1 150 (dk_at dksX3_isAsked_1 15 rfl rfl)
theorem dX3_isAsked_41 : decode cX3_isAsked 41 = .ok (.iconst 1, 1) := dk_4 (dk_at dksX3_isAsked_1 18 rfl rfl)
theorem dX3_isAsked_42 : decode cX3_isAsked 42 = .ok (.ireturn, 1) := dk_172 (dk_at dksX3_isAsked_1 19 rfl rfl)
abbrev cX3_sets : ByteArray := prog_26_method_60_code
def yX3_sets : MethodName := ⟨RX3, "sets", "(III)V"⟩
def dkwX3_sets_3 : List UInt8 := [16, 7, 42, 27, 182, 1, 0, 79, 42, 180, 0, 98, 16, 8, 42, 180, 1, 44, 79, 177]
abbrev dktX3_sets_3 : List UInt8 := dkwX3_sets_3 ++ []
def dkwX3_sets_2 : List UInt8 := [79, 42, 180, 0, 98, 8, 29, 79, 42, 180, 0, 98, 16, 6, 42, 27, 182, 0, 253, 79, 42, 180, 0, 98]
abbrev dktX3_sets_2 : List UInt8 := dkwX3_sets_2 ++ dktX3_sets_3
def dkwX3_sets_1 : List UInt8 := [79, 132, 4, 1, 167, 255, 231, 42, 180, 0, 98, 6, 28, 79, 42, 180, 0, 98, 7, 42, 27, 182, 0, 250]
abbrev dktX3_sets_1 : List UInt8 := dkwX3_sets_1 ++ dktX3_sets_2
def dkwX3_sets_0 : List UInt8 := [3, 54, 4, 21, 4, 6, 162, 0, 25, 42, 180, 0, 98, 21, 4, 42, 28, 7, 108, 21, 4, 182, 1, 16]
abbrev dktX3_sets_0 : List UInt8 := dkwX3_sets_0 ++ dktX3_sets_1
theorem dksX3_sets_0 : cX3_sets.data.toList.drop 0 = dktX3_sets_0 := by decide +kernel
theorem dksX3_sets_1 : cX3_sets.data.toList.drop 24 = dktX3_sets_1 := dk_seg dksX3_sets_0 24 rfl rfl
theorem dksX3_sets_2 : cX3_sets.data.toList.drop 48 = dktX3_sets_2 := dk_seg dksX3_sets_1 24 rfl rfl
theorem dksX3_sets_3 : cX3_sets.data.toList.drop 72 = dktX3_sets_3 := dk_seg dksX3_sets_2 24 rfl rfl
theorem dX3_sets_0 : decode cX3_sets 0 = .ok (.iconst 0, 1) := dk_3 (dk_at dksX3_sets_0 0 rfl rfl)
theorem dX3_sets_1 : decode cX3_sets 1 = .ok (.istore 4, 2) := dk_54 4 (dk_at dksX3_sets_0 1 rfl rfl)
theorem dX3_sets_3 : decode cX3_sets 3 = .ok (.iload 4, 2) := dk_21 4 (dk_at dksX3_sets_0 3 rfl rfl)
theorem dX3_sets_5 : decode cX3_sets 5 = .ok (.iconst 3, 1) := dk_6 (dk_at dksX3_sets_0 5 rfl rfl)
theorem dX3_sets_6 : decode cX3_sets 6 = .ok (.if_icmp .ge 25, 3) := dk_162 0 25 (dk_at dksX3_sets_0 6 rfl rfl)
theorem dX3_sets_9 : decode cX3_sets 9 = .ok (.aload_n 0, 1) := dk_42 (dk_at dksX3_sets_0 9 rfl rfl)
theorem dX3_sets_10 : decode cX3_sets 10 = .ok (.getfield 98, 3) := dk_180 0 98 (dk_at dksX3_sets_0 10 rfl rfl)
theorem dX3_sets_13 : decode cX3_sets 13 = .ok (.iload 4, 2) := dk_21 4 (dk_at dksX3_sets_0 13 rfl rfl)
theorem dX3_sets_15 : decode cX3_sets 15 = .ok (.aload_n 0, 1) := dk_42 (dk_at dksX3_sets_0 15 rfl rfl)
theorem dX3_sets_16 : decode cX3_sets 16 = .ok (.iload_n 2, 1) := dk_28 (dk_at dksX3_sets_0 16 rfl rfl)
theorem dX3_sets_17 : decode cX3_sets 17 = .ok (.iconst 4, 1) := dk_7 (dk_at dksX3_sets_0 17 rfl rfl)
theorem dX3_sets_18 : decode cX3_sets 18 = .ok (.idiv, 1) := dk_108 (dk_at dksX3_sets_0 18 rfl rfl)
theorem dX3_sets_19 : decode cX3_sets 19 = .ok (.iload 4, 2) := dk_21 4 (dk_at dksX3_sets_0 19 rfl rfl)
theorem dX3_sets_21 : decode cX3_sets 21 = .ok (.invokevirtual 272, 3) := dk_182 1 16 (dk_at dksX3_sets_0 21 rfl rfl)
theorem dX3_sets_24 : decode cX3_sets 24 = .ok (.iastore, 1) := dk_79 (dk_at dksX3_sets_1 0 rfl rfl)
theorem dX3_sets_25 : decode cX3_sets 25 = .ok (.iinc 4 1, 3) := dk_132 4 1 (dk_at dksX3_sets_1 1 rfl rfl)
theorem dX3_sets_28 : decode cX3_sets 28 = .ok (.goto (-25), 3) := dk_167 255 231 (dk_at dksX3_sets_1 4 rfl rfl)
theorem dX3_sets_31 : decode cX3_sets 31 = .ok (.aload_n 0, 1) := dk_42 (dk_at dksX3_sets_1 7 rfl rfl)
theorem dX3_sets_32 : decode cX3_sets 32 = .ok (.getfield 98, 3) := dk_180 0 98 (dk_at dksX3_sets_1 8 rfl rfl)
theorem dX3_sets_35 : decode cX3_sets 35 = .ok (.iconst 3, 1) := dk_6 (dk_at dksX3_sets_1 11 rfl rfl)
theorem dX3_sets_36 : decode cX3_sets 36 = .ok (.iload_n 2, 1) := dk_28 (dk_at dksX3_sets_1 12 rfl rfl)
theorem dX3_sets_37 : decode cX3_sets 37 = .ok (.iastore, 1) := dk_79 (dk_at dksX3_sets_1 13 rfl rfl)
theorem dX3_sets_38 : decode cX3_sets 38 = .ok (.aload_n 0, 1) := dk_42 (dk_at dksX3_sets_1 14 rfl rfl)
theorem dX3_sets_39 : decode cX3_sets 39 = .ok (.getfield 98, 3) := dk_180 0 98 (dk_at dksX3_sets_1 15 rfl rfl)
theorem dX3_sets_42 : decode cX3_sets 42 = .ok (.iconst 4, 1) := dk_7 (dk_at dksX3_sets_1 18 rfl rfl)
theorem dX3_sets_43 : decode cX3_sets 43 = .ok (.aload_n 0, 1) := dk_42 (dk_at dksX3_sets_1 19 rfl rfl)
theorem dX3_sets_44 : decode cX3_sets 44 = .ok (.iload_n 1, 1) := dk_27 (dk_at dksX3_sets_1 20 rfl rfl)
theorem dX3_sets_45 : decode cX3_sets 45 = .ok (.invokevirtual 250, 3) := dk_182 0 250 (dk_at dksX3_sets_1 21 rfl rfl)
theorem dX3_sets_48 : decode cX3_sets 48 = .ok (.iastore, 1) := dk_79 (dk_at dksX3_sets_2 0 rfl rfl)
theorem dX3_sets_49 : decode cX3_sets 49 = .ok (.aload_n 0, 1) := dk_42 (dk_at dksX3_sets_2 1 rfl rfl)
theorem dX3_sets_50 : decode cX3_sets 50 = .ok (.getfield 98, 3) := dk_180 0 98 (dk_at dksX3_sets_2 2 rfl rfl)
theorem dX3_sets_53 : decode cX3_sets 53 = .ok (.iconst 5, 1) := dk_8 (dk_at dksX3_sets_2 5 rfl rfl)
theorem dX3_sets_54 : decode cX3_sets 54 = .ok (.iload_n 3, 1) := dk_29 (dk_at dksX3_sets_2 6 rfl rfl)
theorem dX3_sets_55 : decode cX3_sets 55 = .ok (.iastore, 1) := dk_79 (dk_at dksX3_sets_2 7 rfl rfl)
theorem dX3_sets_56 : decode cX3_sets 56 = .ok (.aload_n 0, 1) := dk_42 (dk_at dksX3_sets_2 8 rfl rfl)
theorem dX3_sets_57 : decode cX3_sets 57 = .ok (.getfield 98, 3) := dk_180 0 98 (dk_at dksX3_sets_2 9 rfl rfl)
theorem dX3_sets_60 : decode cX3_sets 60 = .ok (.bipush 6, 2) := dk_16 6 (dk_at dksX3_sets_2 12 rfl rfl)
theorem dX3_sets_62 : decode cX3_sets 62 = .ok (.aload_n 0, 1) := dk_42 (dk_at dksX3_sets_2 14 rfl rfl)
theorem dX3_sets_63 : decode cX3_sets 63 = .ok (.iload_n 1, 1) := dk_27 (dk_at dksX3_sets_2 15 rfl rfl)
theorem dX3_sets_64 : decode cX3_sets 64 = .ok (.invokevirtual 253, 3) := dk_182 0 253 (dk_at dksX3_sets_2 16 rfl rfl)
theorem dX3_sets_67 : decode cX3_sets 67 = .ok (.iastore, 1) := dk_79 (dk_at dksX3_sets_2 19 rfl rfl)
theorem dX3_sets_68 : decode cX3_sets 68 = .ok (.aload_n 0, 1) := dk_42 (dk_at dksX3_sets_2 20 rfl rfl)
theorem dX3_sets_69 : decode cX3_sets 69 = .ok (.getfield 98, 3) := dk_180 0 98 (dk_at dksX3_sets_2 21 rfl rfl)
theorem dX3_sets_72 : decode cX3_sets 72 = .ok (.bipush 7, 2) := dk_16 7 (dk_at dksX3_sets_3 0 rfl rfl)
theorem dX3_sets_74 : decode cX3_sets 74 = .ok (.aload_n 0, 1) := dk_42 (dk_at dksX3_sets_3 2 rfl rfl)
theorem dX3_sets_75 : decode cX3_sets 75 = .ok (.iload_n 1, 1) := dk_27 (dk_at dksX3_sets_3 3 rfl rfl)
theorem dX3_sets_76 : decode cX3_sets 76 = .ok (.invokevirtual 256, 3) := dk_182 1 0 (dk_at dksX3_sets_3 4 rfl rfl)
theorem dX3_sets_79 : decode cX3_sets 79 = .ok (.iastore, 1) := dk_79 (dk_at dksX3_sets_3 7 rfl rfl)
theorem dX3_sets_80 : decode cX3_sets 80 = .ok (.aload_n 0, 1) := dk_42 (dk_at dksX3_sets_3 8 rfl rfl)
theorem dX3_sets_81 : decode cX3_sets 81 = .ok (.getfield 98, 3) := dk_180 0 98 (dk_at dksX3_sets_3 9 rfl rfl)
theorem dX3_sets_84 : decode cX3_sets 84 = .ok (.bipush 8, 2) := dk_16 8 (dk_at dksX3_sets_3 12 rfl rfl)
theorem dX3_sets_86 : decode cX3_sets 86 = .ok (.aload_n 0, 1) := dk_42 (dk_at dksX3_sets_3 14 rfl rfl)
theorem dX3_sets_87 : decode cX3_sets 87 = .ok (.getfield 300, 3) := dk_180 1 44 (dk_at dksX3_sets_3 15 rfl rfl)
theorem dX3_sets_90 : decode cX3_sets 90 = .ok (.iastore, 1) := dk_79 (dk_at dksX3_sets_3 18 rfl rfl)
theorem dX3_sets_91 : decode cX3_sets 91 = .ok (.return_, 1) := dk_177 (dk_at dksX3_sets_3 19 rfl rfl)
abbrev cX3_whyNow : ByteArray := prog_26_method_64_code
def yX3_whyNow : MethodName := ⟨RX3, "whyNow", "()I"⟩
def dkwX3_whyNow_1 : List UInt8 := [4, 160, 0, 5, 27, 172, 132, 1, 1, 167, 255, 225, 16, 252, 172]
abbrev dktX3_whyNow_1 : List UInt8 := dkwX3_whyNow_1 ++ []
def dkwX3_whyNow_0 : List UInt8 := [3, 60, 27, 42, 180, 1, 140, 162, 0, 29, 42, 180, 0, 77, 27, 46, 154, 0, 14, 42, 27, 182, 1, 154]
abbrev dktX3_whyNow_0 : List UInt8 := dkwX3_whyNow_0 ++ dktX3_whyNow_1
theorem dksX3_whyNow_0 : cX3_whyNow.data.toList.drop 0 = dktX3_whyNow_0 := by decide +kernel
theorem dksX3_whyNow_1 : cX3_whyNow.data.toList.drop 24 = dktX3_whyNow_1 := dk_seg dksX3_whyNow_0 24 rfl rfl
theorem dX3_whyNow_0 : decode cX3_whyNow 0 = .ok (.iconst 0, 1) := dk_3 (dk_at dksX3_whyNow_0 0 rfl rfl)
theorem dX3_whyNow_1 : decode cX3_whyNow 1 = .ok (.istore_n 1, 1) := dk_60 (dk_at dksX3_whyNow_0 1 rfl rfl)
theorem dX3_whyNow_2 : decode cX3_whyNow 2 = .ok (.iload_n 1, 1) := dk_27 (dk_at dksX3_whyNow_0 2 rfl rfl)
theorem dX3_whyNow_3 : decode cX3_whyNow 3 = .ok (.aload_n 0, 1) := dk_42 (dk_at dksX3_whyNow_0 3 rfl rfl)
theorem dX3_whyNow_4 : decode cX3_whyNow 4 = .ok (.getfield 396, 3) := dk_180 1 140 (dk_at dksX3_whyNow_0 4 rfl rfl)
theorem dX3_whyNow_7 : decode cX3_whyNow 7 = .ok (.if_icmp .ge 29, 3) := dk_162 0 29 (dk_at dksX3_whyNow_0 7 rfl rfl)
theorem dX3_whyNow_10 : decode cX3_whyNow 10 = .ok (.aload_n 0, 1) := dk_42 (dk_at dksX3_whyNow_0 10 rfl rfl)
theorem dX3_whyNow_11 : decode cX3_whyNow 11 = .ok (.getfield 77, 3) := dk_180 0 77 (dk_at dksX3_whyNow_0 11 rfl rfl)
theorem dX3_whyNow_14 : decode cX3_whyNow 14 = .ok (.iload_n 1, 1) := dk_27 (dk_at dksX3_whyNow_0 14 rfl rfl)
theorem dX3_whyNow_15 : decode cX3_whyNow 15 = .ok (.iaload, 1) := dk_46 (dk_at dksX3_whyNow_0 15 rfl rfl)
theorem dX3_whyNow_16 : decode cX3_whyNow 16 = .ok (.ifCond .ne 14, 3) := dk_154 0 14 (dk_at dksX3_whyNow_0 16 rfl rfl)
theorem dX3_whyNow_19 : decode cX3_whyNow 19 = .ok (.aload_n 0, 1) := dk_42 (dk_at dksX3_whyNow_0 19 rfl rfl)
theorem dX3_whyNow_20 : decode cX3_whyNow 20 = .ok (.iload_n 1, 1) := dk_27 (dk_at dksX3_whyNow_0 20 rfl rfl)
theorem dX3_whyNow_21 : decode cX3_whyNow 21 = .ok (.invokevirtual 410, 3) := dk_182 1 154 (dk_at dksX3_whyNow_0 21 rfl rfl)
theorem dX3_whyNow_24 : decode cX3_whyNow 24 = .ok (.iconst 1, 1) := dk_4 (dk_at dksX3_whyNow_1 0 rfl rfl)
theorem dX3_whyNow_25 : decode cX3_whyNow 25 = .ok (.if_icmp .ne 5, 3) := dk_160 0 5 (dk_at dksX3_whyNow_1 1 rfl rfl)
theorem dX3_whyNow_28 : decode cX3_whyNow 28 = .ok (.iload_n 1, 1) := dk_27 (dk_at dksX3_whyNow_1 4 rfl rfl)
theorem dX3_whyNow_29 : decode cX3_whyNow 29 = .ok (.ireturn, 1) := dk_172 (dk_at dksX3_whyNow_1 5 rfl rfl)
theorem dX3_whyNow_30 : decode cX3_whyNow 30 = .ok (.iinc 1 1, 3) := dk_132 1 1 (dk_at dksX3_whyNow_1 6 rfl rfl)
theorem dX3_whyNow_33 : decode cX3_whyNow 33 = .ok (.goto (-31), 3) := dk_167 255 225 (dk_at dksX3_whyNow_1 9 rfl rfl)
theorem dX3_whyNow_36 : decode cX3_whyNow 36 = .ok (.bipush (-4), 2) := dk_16 252 (dk_at dksX3_whyNow_1 12 rfl rfl)
theorem dX3_whyNow_38 : decode cX3_whyNow 38 = .ok (.ireturn, 1) := dk_172 (dk_at dksX3_whyNow_1 14 rfl rfl)
abbrev cX3_worked : ByteArray := prog_26_method_62_code
def yX3_worked : MethodName := ⟨RX3, "worked", "(I)I"⟩
def dkwX3_worked_13 : List UInt8 := [167, 254, 219, 42, 180, 0, 101, 3, 46, 172]
abbrev dktX3_worked_13 : List UInt8 := dkwX3_worked_13 ++ []
def dkwX3_worked_12 : List UInt8 := [184, 1, 147, 167, 0, 13, 21, 8, 153, 0, 7, 4, 167, 0, 4, 3, 79, 132, 2, 255, 132, 3, 1]
abbrev dktX3_worked_12 : List UInt8 := dkwX3_worked_12 ++ dktX3_worked_13
def dkwX3_worked_11 : List UInt8 := [167, 0, 4, 3, 54, 9, 42, 180, 0, 101, 28, 5, 100, 21, 9, 153, 0, 15, 21, 6, 21, 7, 21, 5]
abbrev dktX3_worked_11 : List UInt8 := dkwX3_worked_11 ++ dktX3_worked_12
def dkwX3_worked_10 : List UInt8 := [54, 8, 21, 5, 16, 43, 159, 0, 17, 21, 5, 16, 45, 159, 0, 10, 21, 5, 16, 42, 160, 0, 7, 4]
abbrev dktX3_worked_10 : List UInt8 := dkwX3_worked_10 ++ dktX3_worked_11
def dkwX3_worked_9 : List UInt8 := [160, 0, 7, 4, 167, 0, 20, 3, 167, 0, 16, 21, 6, 21, 7, 96, 158, 0, 7, 4, 167, 0, 4, 3]
abbrev dktX3_worked_9 : List UInt8 := dkwX3_worked_9 ++ dktX3_worked_10
def dkwX3_worked_8 : List UInt8 := [160, 0, 7, 4, 167, 0, 44, 3, 167, 0, 40, 21, 5, 16, 38, 160, 0, 20, 21, 6, 21, 7, 96, 5]
abbrev dktX3_worked_8 : List UInt8 := dkwX3_worked_8 ++ dktX3_worked_9
def dkwX3_worked_7 : List UInt8 := [164, 0, 7, 4, 167, 0, 66, 3, 167, 0, 62, 21, 5, 16, 61, 160, 0, 18, 21, 6, 21, 7]
abbrev dktX3_worked_7 : List UInt8 := dkwX3_worked_7 ++ dktX3_worked_8
def dkwX3_worked_6 : List UInt8 := [162, 0, 7, 4, 167, 0, 88, 3, 167, 0, 84, 21, 5, 16, 62, 160, 0, 18, 21, 6, 21, 7]
abbrev dktX3_worked_6 : List UInt8 := dkwX3_worked_6 ++ dktX3_worked_7
def dkwX3_worked_5 : List UInt8 := [54, 6, 42, 180, 0, 101, 28, 4, 100, 46, 54, 7, 21, 5, 16, 60, 160, 0, 18, 21, 6, 21, 7]
abbrev dktX3_worked_5 : List UInt8 := dkwX3_worked_5 ++ dktX3_worked_6
def dkwX3_worked_4 : List UInt8 := [4, 100, 46, 100, 79, 167, 0, 201, 16, 156, 21, 4, 100, 54, 5, 42, 180, 0, 101, 28, 5, 100, 46]
abbrev dktX3_worked_4 : List UInt8 := dkwX3_worked_4 ++ dktX3_worked_5
def dkwX3_worked_3 : List UInt8 := [167, 0, 230, 21, 4, 17, 255, 123, 160, 0, 24, 42, 180, 0, 101, 28, 4, 100, 4, 42, 180, 0, 101, 28]
abbrev dktX3_worked_3 : List UInt8 := dkwX3_worked_3 ++ dktX3_worked_4
def dkwX3_worked_2 : List UInt8 := [21, 4, 155, 0, 8, 21, 4, 167, 0, 12, 42, 180, 0, 98, 2, 21, 4, 100, 46, 79, 132, 2, 1]
abbrev dktX3_worked_2 : List UInt8 := dkwX3_worked_2 ++ dktX3_worked_3
def dkwX3_worked_1 : List UInt8 := [180, 0, 83, 29, 46, 54, 4, 21, 4, 156, 0, 10, 21, 4, 16, 156, 164, 0, 34, 42, 180, 0, 101, 28]
abbrev dktX3_worked_1 : List UInt8 := dkwX3_worked_1 ++ dktX3_worked_2
def dkwX3_worked_0 : List UInt8 := [3, 61, 42, 180, 0, 80, 27, 46, 62, 29, 42, 180, 0, 80, 27, 4, 96, 46, 162, 1, 31, 42]
abbrev dktX3_worked_0 : List UInt8 := dkwX3_worked_0 ++ dktX3_worked_1
theorem dksX3_worked_0 : cX3_worked.data.toList.drop 0 = dktX3_worked_0 := by decide +kernel
theorem dksX3_worked_1 : cX3_worked.data.toList.drop 22 = dktX3_worked_1 := dk_seg dksX3_worked_0 22 rfl rfl
theorem dksX3_worked_2 : cX3_worked.data.toList.drop 46 = dktX3_worked_2 := dk_seg dksX3_worked_1 24 rfl rfl
theorem dksX3_worked_3 : cX3_worked.data.toList.drop 69 = dktX3_worked_3 := dk_seg dksX3_worked_2 23 rfl rfl
theorem dksX3_worked_4 : cX3_worked.data.toList.drop 93 = dktX3_worked_4 := dk_seg dksX3_worked_3 24 rfl rfl
theorem dksX3_worked_5 : cX3_worked.data.toList.drop 116 = dktX3_worked_5 := dk_seg dksX3_worked_4 23 rfl rfl
theorem dksX3_worked_6 : cX3_worked.data.toList.drop 139 = dktX3_worked_6 := dk_seg dksX3_worked_5 23 rfl rfl
theorem dksX3_worked_7 : cX3_worked.data.toList.drop 161 = dktX3_worked_7 := dk_seg dksX3_worked_6 22 rfl rfl
theorem dksX3_worked_8 : cX3_worked.data.toList.drop 183 = dktX3_worked_8 := dk_seg dksX3_worked_7 22 rfl rfl
theorem dksX3_worked_9 : cX3_worked.data.toList.drop 207 = dktX3_worked_9 := dk_seg dksX3_worked_8 24 rfl rfl
theorem dksX3_worked_10 : cX3_worked.data.toList.drop 231 = dktX3_worked_10 := dk_seg dksX3_worked_9 24 rfl rfl
theorem dksX3_worked_11 : cX3_worked.data.toList.drop 255 = dktX3_worked_11 := dk_seg dksX3_worked_10 24 rfl rfl
theorem dksX3_worked_12 : cX3_worked.data.toList.drop 279 = dktX3_worked_12 := dk_seg dksX3_worked_11 24 rfl rfl
theorem dksX3_worked_13 : cX3_worked.data.toList.drop 302 = dktX3_worked_13 := dk_seg dksX3_worked_12 23 rfl rfl
theorem dX3_worked_0 : decode cX3_worked 0 = .ok (.iconst 0, 1) := dk_3 (dk_at dksX3_worked_0 0 rfl rfl)
theorem dX3_worked_1 : decode cX3_worked 1 = .ok (.istore_n 2, 1) := dk_61 (dk_at dksX3_worked_0 1 rfl rfl)
theorem dX3_worked_2 : decode cX3_worked 2 = .ok (.aload_n 0, 1) := dk_42 (dk_at dksX3_worked_0 2 rfl rfl)
theorem dX3_worked_3 : decode cX3_worked 3 = .ok (.getfield 80, 3) := dk_180 0 80 (dk_at dksX3_worked_0 3 rfl rfl)
theorem dX3_worked_6 : decode cX3_worked 6 = .ok (.iload_n 1, 1) := dk_27 (dk_at dksX3_worked_0 6 rfl rfl)
theorem dX3_worked_7 : decode cX3_worked 7 = .ok (.iaload, 1) := dk_46 (dk_at dksX3_worked_0 7 rfl rfl)
theorem dX3_worked_8 : decode cX3_worked 8 = .ok (.istore_n 3, 1) := dk_62 (dk_at dksX3_worked_0 8 rfl rfl)
theorem dX3_worked_9 : decode cX3_worked 9 = .ok (.iload_n 3, 1) := dk_29 (dk_at dksX3_worked_0 9 rfl rfl)
theorem dX3_worked_10 : decode cX3_worked 10 = .ok (.aload_n 0, 1) := dk_42 (dk_at dksX3_worked_0 10 rfl rfl)
theorem dX3_worked_11 : decode cX3_worked 11 = .ok (.getfield 80, 3) := dk_180 0 80 (dk_at dksX3_worked_0 11 rfl rfl)
theorem dX3_worked_14 : decode cX3_worked 14 = .ok (.iload_n 1, 1) := dk_27 (dk_at dksX3_worked_0 14 rfl rfl)
theorem dX3_worked_15 : decode cX3_worked 15 = .ok (.iconst 1, 1) := dk_4 (dk_at dksX3_worked_0 15 rfl rfl)
theorem dX3_worked_16 : decode cX3_worked 16 = .ok (.iadd, 1) := dk_96 (dk_at dksX3_worked_0 16 rfl rfl)
theorem dX3_worked_17 : decode cX3_worked 17 = .ok (.iaload, 1) := dk_46 (dk_at dksX3_worked_0 17 rfl rfl)
theorem dX3_worked_18 : decode cX3_worked 18 = .ok (.if_icmp .ge 287, 3) := dk_162 1 31 (dk_at dksX3_worked_0 18 rfl rfl)
theorem dX3_worked_21 : decode cX3_worked 21 = .ok (.aload_n 0, 1) := dk_42 (dk_at dksX3_worked_0 21 rfl rfl)
theorem dX3_worked_22 : decode cX3_worked 22 = .ok (.getfield 83, 3) := dk_180 0 83 (dk_at dksX3_worked_1 0 rfl rfl)
theorem dX3_worked_25 : decode cX3_worked 25 = .ok (.iload_n 3, 1) := dk_29 (dk_at dksX3_worked_1 3 rfl rfl)
theorem dX3_worked_26 : decode cX3_worked 26 = .ok (.iaload, 1) := dk_46 (dk_at dksX3_worked_1 4 rfl rfl)
theorem dX3_worked_27 : decode cX3_worked 27 = .ok (.istore 4, 2) := dk_54 4 (dk_at dksX3_worked_1 5 rfl rfl)
theorem dX3_worked_29 : decode cX3_worked 29 = .ok (.iload 4, 2) := dk_21 4 (dk_at dksX3_worked_1 7 rfl rfl)
theorem dX3_worked_31 : decode cX3_worked 31 = .ok (.ifCond .ge 10, 3) := dk_156 0 10 (dk_at dksX3_worked_1 9 rfl rfl)
theorem dX3_worked_34 : decode cX3_worked 34 = .ok (.iload 4, 2) := dk_21 4 (dk_at dksX3_worked_1 12 rfl rfl)
theorem dX3_worked_36 : decode cX3_worked 36 = .ok (.bipush (-100), 2) := dk_16 156 (dk_at dksX3_worked_1 14 rfl rfl)
theorem dX3_worked_38 : decode cX3_worked 38 = .ok (.if_icmp .le 34, 3) := dk_164 0 34 (dk_at dksX3_worked_1 16 rfl rfl)
theorem dX3_worked_41 : decode cX3_worked 41 = .ok (.aload_n 0, 1) := dk_42 (dk_at dksX3_worked_1 19 rfl rfl)
theorem dX3_worked_42 : decode cX3_worked 42 = .ok (.getfield 101, 3) := dk_180 0 101 (dk_at dksX3_worked_1 20 rfl rfl)
theorem dX3_worked_45 : decode cX3_worked 45 = .ok (.iload_n 2, 1) := dk_28 (dk_at dksX3_worked_1 23 rfl rfl)
theorem dX3_worked_46 : decode cX3_worked 46 = .ok (.iload 4, 2) := dk_21 4 (dk_at dksX3_worked_2 0 rfl rfl)
theorem dX3_worked_48 : decode cX3_worked 48 = .ok (.ifCond .lt 8, 3) := dk_155 0 8 (dk_at dksX3_worked_2 2 rfl rfl)
theorem dX3_worked_51 : decode cX3_worked 51 = .ok (.iload 4, 2) := dk_21 4 (dk_at dksX3_worked_2 5 rfl rfl)
theorem dX3_worked_53 : decode cX3_worked 53 = .ok (.goto 12, 3) := dk_167 0 12 (dk_at dksX3_worked_2 7 rfl rfl)
theorem dX3_worked_56 : decode cX3_worked 56 = .ok (.aload_n 0, 1) := dk_42 (dk_at dksX3_worked_2 10 rfl rfl)
theorem dX3_worked_57 : decode cX3_worked 57 = .ok (.getfield 98, 3) := dk_180 0 98 (dk_at dksX3_worked_2 11 rfl rfl)
theorem dX3_worked_60 : decode cX3_worked 60 = .ok (.iconst (-1), 1) := dk_2 (dk_at dksX3_worked_2 14 rfl rfl)
theorem dX3_worked_61 : decode cX3_worked 61 = .ok (.iload 4, 2) := dk_21 4 (dk_at dksX3_worked_2 15 rfl rfl)
theorem dX3_worked_63 : decode cX3_worked 63 = .ok (.isub, 1) := dk_100 (dk_at dksX3_worked_2 17 rfl rfl)
theorem dX3_worked_64 : decode cX3_worked 64 = .ok (.iaload, 1) := dk_46 (dk_at dksX3_worked_2 18 rfl rfl)
theorem dX3_worked_65 : decode cX3_worked 65 = .ok (.iastore, 1) := dk_79 (dk_at dksX3_worked_2 19 rfl rfl)
theorem dX3_worked_66 : decode cX3_worked 66 = .ok (.iinc 2 1, 3) := dk_132 2 1 (dk_at dksX3_worked_2 20 rfl rfl)
theorem dX3_worked_69 : decode cX3_worked 69 = .ok (.goto 230, 3) := dk_167 0 230 (dk_at dksX3_worked_3 0 rfl rfl)
theorem dX3_worked_72 : decode cX3_worked 72 = .ok (.iload 4, 2) := dk_21 4 (dk_at dksX3_worked_3 3 rfl rfl)
theorem dX3_worked_74 : decode cX3_worked 74 = .ok (.sipush (-133), 3) := dk_17 255 123 (dk_at dksX3_worked_3 5 rfl rfl)
theorem dX3_worked_77 : decode cX3_worked 77 = .ok (.if_icmp .ne 24, 3) := dk_160 0 24 (dk_at dksX3_worked_3 8 rfl rfl)
theorem dX3_worked_80 : decode cX3_worked 80 = .ok (.aload_n 0, 1) := dk_42 (dk_at dksX3_worked_3 11 rfl rfl)
theorem dX3_worked_81 : decode cX3_worked 81 = .ok (.getfield 101, 3) := dk_180 0 101 (dk_at dksX3_worked_3 12 rfl rfl)
theorem dX3_worked_84 : decode cX3_worked 84 = .ok (.iload_n 2, 1) := dk_28 (dk_at dksX3_worked_3 15 rfl rfl)
theorem dX3_worked_85 : decode cX3_worked 85 = .ok (.iconst 1, 1) := dk_4 (dk_at dksX3_worked_3 16 rfl rfl)
theorem dX3_worked_86 : decode cX3_worked 86 = .ok (.isub, 1) := dk_100 (dk_at dksX3_worked_3 17 rfl rfl)
theorem dX3_worked_87 : decode cX3_worked 87 = .ok (.iconst 1, 1) := dk_4 (dk_at dksX3_worked_3 18 rfl rfl)
theorem dX3_worked_88 : decode cX3_worked 88 = .ok (.aload_n 0, 1) := dk_42 (dk_at dksX3_worked_3 19 rfl rfl)
theorem dX3_worked_89 : decode cX3_worked 89 = .ok (.getfield 101, 3) := dk_180 0 101 (dk_at dksX3_worked_3 20 rfl rfl)
theorem dX3_worked_92 : decode cX3_worked 92 = .ok (.iload_n 2, 1) := dk_28 (dk_at dksX3_worked_3 23 rfl rfl)
theorem dX3_worked_93 : decode cX3_worked 93 = .ok (.iconst 1, 1) := dk_4 (dk_at dksX3_worked_4 0 rfl rfl)
theorem dX3_worked_94 : decode cX3_worked 94 = .ok (.isub, 1) := dk_100 (dk_at dksX3_worked_4 1 rfl rfl)
theorem dX3_worked_95 : decode cX3_worked 95 = .ok (.iaload, 1) := dk_46 (dk_at dksX3_worked_4 2 rfl rfl)
theorem dX3_worked_96 : decode cX3_worked 96 = .ok (.isub, 1) := dk_100 (dk_at dksX3_worked_4 3 rfl rfl)
theorem dX3_worked_97 : decode cX3_worked 97 = .ok (.iastore, 1) := dk_79 (dk_at dksX3_worked_4 4 rfl rfl)
theorem dX3_worked_98 : decode cX3_worked 98 = .ok (.goto 201, 3) := dk_167 0 201 (dk_at dksX3_worked_4 5 rfl rfl)
theorem dX3_worked_101 : decode cX3_worked 101 = .ok (.bipush (-100), 2) := dk_16 156 (dk_at dksX3_worked_4 8 rfl rfl)
theorem dX3_worked_103 : decode cX3_worked 103 = .ok (.iload 4, 2) := dk_21 4 (dk_at dksX3_worked_4 10 rfl rfl)
theorem dX3_worked_105 : decode cX3_worked 105 = .ok (.isub, 1) := dk_100 (dk_at dksX3_worked_4 12 rfl rfl)
theorem dX3_worked_106 : decode cX3_worked 106 = .ok (.istore 5, 2) := dk_54 5 (dk_at dksX3_worked_4 13 rfl rfl)
theorem dX3_worked_108 : decode cX3_worked 108 = .ok (.aload_n 0, 1) := dk_42 (dk_at dksX3_worked_4 15 rfl rfl)
theorem dX3_worked_109 : decode cX3_worked 109 = .ok (.getfield 101, 3) := dk_180 0 101 (dk_at dksX3_worked_4 16 rfl rfl)
theorem dX3_worked_112 : decode cX3_worked 112 = .ok (.iload_n 2, 1) := dk_28 (dk_at dksX3_worked_4 19 rfl rfl)
theorem dX3_worked_113 : decode cX3_worked 113 = .ok (.iconst 2, 1) := dk_5 (dk_at dksX3_worked_4 20 rfl rfl)
theorem dX3_worked_114 : decode cX3_worked 114 = .ok (.isub, 1) := dk_100 (dk_at dksX3_worked_4 21 rfl rfl)
theorem dX3_worked_115 : decode cX3_worked 115 = .ok (.iaload, 1) := dk_46 (dk_at dksX3_worked_4 22 rfl rfl)
theorem dX3_worked_116 : decode cX3_worked 116 = .ok (.istore 6, 2) := dk_54 6 (dk_at dksX3_worked_5 0 rfl rfl)
theorem dX3_worked_118 : decode cX3_worked 118 = .ok (.aload_n 0, 1) := dk_42 (dk_at dksX3_worked_5 2 rfl rfl)
theorem dX3_worked_119 : decode cX3_worked 119 = .ok (.getfield 101, 3) := dk_180 0 101 (dk_at dksX3_worked_5 3 rfl rfl)
theorem dX3_worked_122 : decode cX3_worked 122 = .ok (.iload_n 2, 1) := dk_28 (dk_at dksX3_worked_5 6 rfl rfl)
theorem dX3_worked_123 : decode cX3_worked 123 = .ok (.iconst 1, 1) := dk_4 (dk_at dksX3_worked_5 7 rfl rfl)
theorem dX3_worked_124 : decode cX3_worked 124 = .ok (.isub, 1) := dk_100 (dk_at dksX3_worked_5 8 rfl rfl)
theorem dX3_worked_125 : decode cX3_worked 125 = .ok (.iaload, 1) := dk_46 (dk_at dksX3_worked_5 9 rfl rfl)
theorem dX3_worked_126 : decode cX3_worked 126 = .ok (.istore 7, 2) := dk_54 7 (dk_at dksX3_worked_5 10 rfl rfl)
theorem dX3_worked_128 : decode cX3_worked 128 = .ok (.iload 5, 2) := dk_21 5 (dk_at dksX3_worked_5 12 rfl rfl)
theorem dX3_worked_130 : decode cX3_worked 130 = .ok (.bipush 60, 2) := dk_16 60 (dk_at dksX3_worked_5 14 rfl rfl)
theorem dX3_worked_132 : decode cX3_worked 132 = .ok (.if_icmp .ne 18, 3) := dk_160 0 18 (dk_at dksX3_worked_5 16 rfl rfl)
theorem dX3_worked_135 : decode cX3_worked 135 = .ok (.iload 6, 2) := dk_21 6 (dk_at dksX3_worked_5 19 rfl rfl)
theorem dX3_worked_137 : decode cX3_worked 137 = .ok (.iload 7, 2) := dk_21 7 (dk_at dksX3_worked_5 21 rfl rfl)
theorem dX3_worked_139 : decode cX3_worked 139 = .ok (.if_icmp .ge 7, 3) := dk_162 0 7 (dk_at dksX3_worked_6 0 rfl rfl)
theorem dX3_worked_142 : decode cX3_worked 142 = .ok (.iconst 1, 1) := dk_4 (dk_at dksX3_worked_6 3 rfl rfl)
theorem dX3_worked_143 : decode cX3_worked 143 = .ok (.goto 88, 3) := dk_167 0 88 (dk_at dksX3_worked_6 4 rfl rfl)
theorem dX3_worked_146 : decode cX3_worked 146 = .ok (.iconst 0, 1) := dk_3 (dk_at dksX3_worked_6 7 rfl rfl)
theorem dX3_worked_147 : decode cX3_worked 147 = .ok (.goto 84, 3) := dk_167 0 84 (dk_at dksX3_worked_6 8 rfl rfl)
theorem dX3_worked_150 : decode cX3_worked 150 = .ok (.iload 5, 2) := dk_21 5 (dk_at dksX3_worked_6 11 rfl rfl)
theorem dX3_worked_152 : decode cX3_worked 152 = .ok (.bipush 62, 2) := dk_16 62 (dk_at dksX3_worked_6 13 rfl rfl)
theorem dX3_worked_154 : decode cX3_worked 154 = .ok (.if_icmp .ne 18, 3) := dk_160 0 18 (dk_at dksX3_worked_6 15 rfl rfl)
theorem dX3_worked_157 : decode cX3_worked 157 = .ok (.iload 6, 2) := dk_21 6 (dk_at dksX3_worked_6 18 rfl rfl)
theorem dX3_worked_159 : decode cX3_worked 159 = .ok (.iload 7, 2) := dk_21 7 (dk_at dksX3_worked_6 20 rfl rfl)
theorem dX3_worked_161 : decode cX3_worked 161 = .ok (.if_icmp .le 7, 3) := dk_164 0 7 (dk_at dksX3_worked_7 0 rfl rfl)
theorem dX3_worked_164 : decode cX3_worked 164 = .ok (.iconst 1, 1) := dk_4 (dk_at dksX3_worked_7 3 rfl rfl)
theorem dX3_worked_165 : decode cX3_worked 165 = .ok (.goto 66, 3) := dk_167 0 66 (dk_at dksX3_worked_7 4 rfl rfl)
theorem dX3_worked_168 : decode cX3_worked 168 = .ok (.iconst 0, 1) := dk_3 (dk_at dksX3_worked_7 7 rfl rfl)
theorem dX3_worked_169 : decode cX3_worked 169 = .ok (.goto 62, 3) := dk_167 0 62 (dk_at dksX3_worked_7 8 rfl rfl)
theorem dX3_worked_172 : decode cX3_worked 172 = .ok (.iload 5, 2) := dk_21 5 (dk_at dksX3_worked_7 11 rfl rfl)
theorem dX3_worked_174 : decode cX3_worked 174 = .ok (.bipush 61, 2) := dk_16 61 (dk_at dksX3_worked_7 13 rfl rfl)
theorem dX3_worked_176 : decode cX3_worked 176 = .ok (.if_icmp .ne 18, 3) := dk_160 0 18 (dk_at dksX3_worked_7 15 rfl rfl)
theorem dX3_worked_179 : decode cX3_worked 179 = .ok (.iload 6, 2) := dk_21 6 (dk_at dksX3_worked_7 18 rfl rfl)
theorem dX3_worked_181 : decode cX3_worked 181 = .ok (.iload 7, 2) := dk_21 7 (dk_at dksX3_worked_7 20 rfl rfl)
theorem dX3_worked_183 : decode cX3_worked 183 = .ok (.if_icmp .ne 7, 3) := dk_160 0 7 (dk_at dksX3_worked_8 0 rfl rfl)
theorem dX3_worked_186 : decode cX3_worked 186 = .ok (.iconst 1, 1) := dk_4 (dk_at dksX3_worked_8 3 rfl rfl)
theorem dX3_worked_187 : decode cX3_worked 187 = .ok (.goto 44, 3) := dk_167 0 44 (dk_at dksX3_worked_8 4 rfl rfl)
theorem dX3_worked_190 : decode cX3_worked 190 = .ok (.iconst 0, 1) := dk_3 (dk_at dksX3_worked_8 7 rfl rfl)
theorem dX3_worked_191 : decode cX3_worked 191 = .ok (.goto 40, 3) := dk_167 0 40 (dk_at dksX3_worked_8 8 rfl rfl)
theorem dX3_worked_194 : decode cX3_worked 194 = .ok (.iload 5, 2) := dk_21 5 (dk_at dksX3_worked_8 11 rfl rfl)
theorem dX3_worked_196 : decode cX3_worked 196 = .ok (.bipush 38, 2) := dk_16 38 (dk_at dksX3_worked_8 13 rfl rfl)
theorem dX3_worked_198 : decode cX3_worked 198 = .ok (.if_icmp .ne 20, 3) := dk_160 0 20 (dk_at dksX3_worked_8 15 rfl rfl)
theorem dX3_worked_201 : decode cX3_worked 201 = .ok (.iload 6, 2) := dk_21 6 (dk_at dksX3_worked_8 18 rfl rfl)
theorem dX3_worked_203 : decode cX3_worked 203 = .ok (.iload 7, 2) := dk_21 7 (dk_at dksX3_worked_8 20 rfl rfl)
theorem dX3_worked_205 : decode cX3_worked 205 = .ok (.iadd, 1) := dk_96 (dk_at dksX3_worked_8 22 rfl rfl)
theorem dX3_worked_206 : decode cX3_worked 206 = .ok (.iconst 2, 1) := dk_5 (dk_at dksX3_worked_8 23 rfl rfl)
theorem dX3_worked_207 : decode cX3_worked 207 = .ok (.if_icmp .ne 7, 3) := dk_160 0 7 (dk_at dksX3_worked_9 0 rfl rfl)
theorem dX3_worked_210 : decode cX3_worked 210 = .ok (.iconst 1, 1) := dk_4 (dk_at dksX3_worked_9 3 rfl rfl)
theorem dX3_worked_211 : decode cX3_worked 211 = .ok (.goto 20, 3) := dk_167 0 20 (dk_at dksX3_worked_9 4 rfl rfl)
theorem dX3_worked_214 : decode cX3_worked 214 = .ok (.iconst 0, 1) := dk_3 (dk_at dksX3_worked_9 7 rfl rfl)
theorem dX3_worked_215 : decode cX3_worked 215 = .ok (.goto 16, 3) := dk_167 0 16 (dk_at dksX3_worked_9 8 rfl rfl)
theorem dX3_worked_218 : decode cX3_worked 218 = .ok (.iload 6, 2) := dk_21 6 (dk_at dksX3_worked_9 11 rfl rfl)
theorem dX3_worked_220 : decode cX3_worked 220 = .ok (.iload 7, 2) := dk_21 7 (dk_at dksX3_worked_9 13 rfl rfl)
theorem dX3_worked_222 : decode cX3_worked 222 = .ok (.iadd, 1) := dk_96 (dk_at dksX3_worked_9 15 rfl rfl)
theorem dX3_worked_223 : decode cX3_worked 223 = .ok (.ifCond .le 7, 3) := dk_158 0 7 (dk_at dksX3_worked_9 16 rfl rfl)
theorem dX3_worked_226 : decode cX3_worked 226 = .ok (.iconst 1, 1) := dk_4 (dk_at dksX3_worked_9 19 rfl rfl)
theorem dX3_worked_227 : decode cX3_worked 227 = .ok (.goto 4, 3) := dk_167 0 4 (dk_at dksX3_worked_9 20 rfl rfl)
theorem dX3_worked_230 : decode cX3_worked 230 = .ok (.iconst 0, 1) := dk_3 (dk_at dksX3_worked_9 23 rfl rfl)
theorem dX3_worked_231 : decode cX3_worked 231 = .ok (.istore 8, 2) := dk_54 8 (dk_at dksX3_worked_10 0 rfl rfl)
theorem dX3_worked_233 : decode cX3_worked 233 = .ok (.iload 5, 2) := dk_21 5 (dk_at dksX3_worked_10 2 rfl rfl)
theorem dX3_worked_235 : decode cX3_worked 235 = .ok (.bipush 43, 2) := dk_16 43 (dk_at dksX3_worked_10 4 rfl rfl)
theorem dX3_worked_237 : decode cX3_worked 237 = .ok (.if_icmp .eq 17, 3) := dk_159 0 17 (dk_at dksX3_worked_10 6 rfl rfl)
theorem dX3_worked_240 : decode cX3_worked 240 = .ok (.iload 5, 2) := dk_21 5 (dk_at dksX3_worked_10 9 rfl rfl)
theorem dX3_worked_242 : decode cX3_worked 242 = .ok (.bipush 45, 2) := dk_16 45 (dk_at dksX3_worked_10 11 rfl rfl)
theorem dX3_worked_244 : decode cX3_worked 244 = .ok (.if_icmp .eq 10, 3) := dk_159 0 10 (dk_at dksX3_worked_10 13 rfl rfl)
theorem dX3_worked_247 : decode cX3_worked 247 = .ok (.iload 5, 2) := dk_21 5 (dk_at dksX3_worked_10 16 rfl rfl)
theorem dX3_worked_249 : decode cX3_worked 249 = .ok (.bipush 42, 2) := dk_16 42 (dk_at dksX3_worked_10 18 rfl rfl)
theorem dX3_worked_251 : decode cX3_worked 251 = .ok (.if_icmp .ne 7, 3) := dk_160 0 7 (dk_at dksX3_worked_10 20 rfl rfl)
theorem dX3_worked_254 : decode cX3_worked 254 = .ok (.iconst 1, 1) := dk_4 (dk_at dksX3_worked_10 23 rfl rfl)
theorem dX3_worked_255 : decode cX3_worked 255 = .ok (.goto 4, 3) := dk_167 0 4 (dk_at dksX3_worked_11 0 rfl rfl)
theorem dX3_worked_258 : decode cX3_worked 258 = .ok (.iconst 0, 1) := dk_3 (dk_at dksX3_worked_11 3 rfl rfl)
theorem dX3_worked_259 : decode cX3_worked 259 = .ok (.istore 9, 2) := dk_54 9 (dk_at dksX3_worked_11 4 rfl rfl)
theorem dX3_worked_261 : decode cX3_worked 261 = .ok (.aload_n 0, 1) := dk_42 (dk_at dksX3_worked_11 6 rfl rfl)
theorem dX3_worked_262 : decode cX3_worked 262 = .ok (.getfield 101, 3) := dk_180 0 101 (dk_at dksX3_worked_11 7 rfl rfl)
theorem dX3_worked_265 : decode cX3_worked 265 = .ok (.iload_n 2, 1) := dk_28 (dk_at dksX3_worked_11 10 rfl rfl)
theorem dX3_worked_266 : decode cX3_worked 266 = .ok (.iconst 2, 1) := dk_5 (dk_at dksX3_worked_11 11 rfl rfl)
theorem dX3_worked_267 : decode cX3_worked 267 = .ok (.isub, 1) := dk_100 (dk_at dksX3_worked_11 12 rfl rfl)
theorem dX3_worked_268 : decode cX3_worked 268 = .ok (.iload 9, 2) := dk_21 9 (dk_at dksX3_worked_11 13 rfl rfl)
theorem dX3_worked_270 : decode cX3_worked 270 = .ok (.ifCond .eq 15, 3) := dk_153 0 15 (dk_at dksX3_worked_11 15 rfl rfl)
theorem dX3_worked_273 : decode cX3_worked 273 = .ok (.iload 6, 2) := dk_21 6 (dk_at dksX3_worked_11 18 rfl rfl)
theorem dX3_worked_275 : decode cX3_worked 275 = .ok (.iload 7, 2) := dk_21 7 (dk_at dksX3_worked_11 20 rfl rfl)
theorem dX3_worked_277 : decode cX3_worked 277 = .ok (.iload 5, 2) := dk_21 5 (dk_at dksX3_worked_11 22 rfl rfl)
theorem dX3_worked_279 : decode cX3_worked 279 = .ok (.invokestatic 403, 3) := dk_184 1 147 (dk_at dksX3_worked_12 0 rfl rfl)
theorem dX3_worked_282 : decode cX3_worked 282 = .ok (.goto 13, 3) := dk_167 0 13 (dk_at dksX3_worked_12 3 rfl rfl)
theorem dX3_worked_285 : decode cX3_worked 285 = .ok (.iload 8, 2) := dk_21 8 (dk_at dksX3_worked_12 6 rfl rfl)
theorem dX3_worked_287 : decode cX3_worked 287 = .ok (.ifCond .eq 7, 3) := dk_153 0 7 (dk_at dksX3_worked_12 8 rfl rfl)
theorem dX3_worked_290 : decode cX3_worked 290 = .ok (.iconst 1, 1) := dk_4 (dk_at dksX3_worked_12 11 rfl rfl)
theorem dX3_worked_291 : decode cX3_worked 291 = .ok (.goto 4, 3) := dk_167 0 4 (dk_at dksX3_worked_12 12 rfl rfl)
theorem dX3_worked_294 : decode cX3_worked 294 = .ok (.iconst 0, 1) := dk_3 (dk_at dksX3_worked_12 15 rfl rfl)
theorem dX3_worked_295 : decode cX3_worked 295 = .ok (.iastore, 1) := dk_79 (dk_at dksX3_worked_12 16 rfl rfl)
theorem dX3_worked_296 : decode cX3_worked 296 = .ok (.iinc 2 (-1), 3) := dk_132 2 255 (dk_at dksX3_worked_12 17 rfl rfl)
theorem dX3_worked_299 : decode cX3_worked 299 = .ok (.iinc 3 1, 3) := dk_132 3 1 (dk_at dksX3_worked_12 20 rfl rfl)
theorem dX3_worked_302 : decode cX3_worked 302 = .ok (.goto (-293), 3) := dk_167 254 219 (dk_at dksX3_worked_13 0 rfl rfl)
theorem dX3_worked_305 : decode cX3_worked 305 = .ok (.aload_n 0, 1) := dk_42 (dk_at dksX3_worked_13 3 rfl rfl)
theorem dX3_worked_306 : decode cX3_worked 306 = .ok (.getfield 101, 3) := dk_180 0 101 (dk_at dksX3_worked_13 4 rfl rfl)
theorem dX3_worked_309 : decode cX3_worked 309 = .ok (.iconst 0, 1) := dk_3 (dk_at dksX3_worked_13 7 rfl rfl)
theorem dX3_worked_310 : decode cX3_worked 310 = .ok (.iaload, 1) := dk_46 (dk_at dksX3_worked_13 8 rfl rfl)
theorem dX3_worked_311 : decode cX3_worked 311 = .ok (.ireturn, 1) := dk_172 (dk_at dksX3_worked_13 9 rfl rfl)
abbrev cX3_work : ByteArray := prog_26_method_61_code
def yX3_work : MethodName := ⟨RX3, "work", "(III)I"⟩
def dkwX3_work_3 : List UInt8 := [22, 7, 136, 172]
abbrev dktX3_work_3 : List UInt8 := dkwX3_work_3 ++ []
def dkwX3_work_2 : List UInt8 := [158, 0, 9, 20, 1, 143, 167, 0, 20, 22, 7, 20, 1, 145, 148, 156, 0, 9, 20, 1, 145, 167, 0, 5]
abbrev dktX3_work_2 : List UInt8 := dkwX3_work_2 ++ dktX3_work_3
def dkwX3_work_1 : List UInt8 := [160, 0, 10, 33, 22, 5, 101, 167, 0, 7, 33, 22, 5, 105, 55, 7, 22, 7, 20, 1, 143, 148]
abbrev dktX3_work_1 : List UInt8 := dkwX3_work_1 ++ dktX3_work_2
def dkwX3_work_0 : List UInt8 := [26, 133, 66, 27, 133, 55, 5, 28, 16, 43, 160, 0, 10, 33, 22, 5, 97, 167, 0, 20, 28, 16, 45]
abbrev dktX3_work_0 : List UInt8 := dkwX3_work_0 ++ dktX3_work_1
theorem dksX3_work_0 : cX3_work.data.toList.drop 0 = dktX3_work_0 := by decide +kernel
theorem dksX3_work_1 : cX3_work.data.toList.drop 23 = dktX3_work_1 := dk_seg dksX3_work_0 23 rfl rfl
theorem dksX3_work_2 : cX3_work.data.toList.drop 45 = dktX3_work_2 := dk_seg dksX3_work_1 22 rfl rfl
theorem dksX3_work_3 : cX3_work.data.toList.drop 69 = dktX3_work_3 := dk_seg dksX3_work_2 24 rfl rfl
theorem dX3_work_0 : decode cX3_work 0 = .ok (.iload_n 0, 1) := dk_26 (dk_at dksX3_work_0 0 rfl rfl)
theorem dX3_work_1 : decode cX3_work 1 = .ok (.i2l, 1) := dk_133 (dk_at dksX3_work_0 1 rfl rfl)
theorem dX3_work_2 : decode cX3_work 2 = .ok (.lstore_n 3, 1) := dk_66 (dk_at dksX3_work_0 2 rfl rfl)
theorem dX3_work_3 : decode cX3_work 3 = .ok (.iload_n 1, 1) := dk_27 (dk_at dksX3_work_0 3 rfl rfl)
theorem dX3_work_4 : decode cX3_work 4 = .ok (.i2l, 1) := dk_133 (dk_at dksX3_work_0 4 rfl rfl)
theorem dX3_work_5 : decode cX3_work 5 = .ok (.lstore 5, 2) := dk_55 5 (dk_at dksX3_work_0 5 rfl rfl)
theorem dX3_work_7 : decode cX3_work 7 = .ok (.iload_n 2, 1) := dk_28 (dk_at dksX3_work_0 7 rfl rfl)
theorem dX3_work_8 : decode cX3_work 8 = .ok (.bipush 43, 2) := dk_16 43 (dk_at dksX3_work_0 8 rfl rfl)
theorem dX3_work_10 : decode cX3_work 10 = .ok (.if_icmp .ne 10, 3) := dk_160 0 10 (dk_at dksX3_work_0 10 rfl rfl)
theorem dX3_work_13 : decode cX3_work 13 = .ok (.lload_n 3, 1) := dk_33 (dk_at dksX3_work_0 13 rfl rfl)
theorem dX3_work_14 : decode cX3_work 14 = .ok (.lload 5, 2) := dk_22 5 (dk_at dksX3_work_0 14 rfl rfl)
theorem dX3_work_16 : decode cX3_work 16 = .ok (.ladd, 1) := dk_97 (dk_at dksX3_work_0 16 rfl rfl)
theorem dX3_work_17 : decode cX3_work 17 = .ok (.goto 20, 3) := dk_167 0 20 (dk_at dksX3_work_0 17 rfl rfl)
theorem dX3_work_20 : decode cX3_work 20 = .ok (.iload_n 2, 1) := dk_28 (dk_at dksX3_work_0 20 rfl rfl)
theorem dX3_work_21 : decode cX3_work 21 = .ok (.bipush 45, 2) := dk_16 45 (dk_at dksX3_work_0 21 rfl rfl)
theorem dX3_work_23 : decode cX3_work 23 = .ok (.if_icmp .ne 10, 3) := dk_160 0 10 (dk_at dksX3_work_1 0 rfl rfl)
theorem dX3_work_26 : decode cX3_work 26 = .ok (.lload_n 3, 1) := dk_33 (dk_at dksX3_work_1 3 rfl rfl)
theorem dX3_work_27 : decode cX3_work 27 = .ok (.lload 5, 2) := dk_22 5 (dk_at dksX3_work_1 4 rfl rfl)
theorem dX3_work_29 : decode cX3_work 29 = .ok (.lsub, 1) := dk_101 (dk_at dksX3_work_1 6 rfl rfl)
theorem dX3_work_30 : decode cX3_work 30 = .ok (.goto 7, 3) := dk_167 0 7 (dk_at dksX3_work_1 7 rfl rfl)
theorem dX3_work_33 : decode cX3_work 33 = .ok (.lload_n 3, 1) := dk_33 (dk_at dksX3_work_1 10 rfl rfl)
theorem dX3_work_34 : decode cX3_work 34 = .ok (.lload 5, 2) := dk_22 5 (dk_at dksX3_work_1 11 rfl rfl)
theorem dX3_work_36 : decode cX3_work 36 = .ok (.lmul, 1) := dk_105 (dk_at dksX3_work_1 13 rfl rfl)
theorem dX3_work_37 : decode cX3_work 37 = .ok (.lstore 7, 2) := dk_55 7 (dk_at dksX3_work_1 14 rfl rfl)
theorem dX3_work_39 : decode cX3_work 39 = .ok (.lload 7, 2) := dk_22 7 (dk_at dksX3_work_1 16 rfl rfl)
theorem dX3_work_41 : decode cX3_work 41 = .ok (.ldc2_w 399, 3) := dk_20 1 143 (dk_at dksX3_work_1 18 rfl rfl)
theorem dX3_work_44 : decode cX3_work 44 = .ok (.lcmp, 1) := dk_148 (dk_at dksX3_work_1 21 rfl rfl)
theorem dX3_work_45 : decode cX3_work 45 = .ok (.ifCond .le 9, 3) := dk_158 0 9 (dk_at dksX3_work_2 0 rfl rfl)
theorem dX3_work_48 : decode cX3_work 48 = .ok (.ldc2_w 399, 3) := dk_20 1 143 (dk_at dksX3_work_2 3 rfl rfl)
theorem dX3_work_51 : decode cX3_work 51 = .ok (.goto 20, 3) := dk_167 0 20 (dk_at dksX3_work_2 6 rfl rfl)
theorem dX3_work_54 : decode cX3_work 54 = .ok (.lload 7, 2) := dk_22 7 (dk_at dksX3_work_2 9 rfl rfl)
theorem dX3_work_56 : decode cX3_work 56 = .ok (.ldc2_w 401, 3) := dk_20 1 145 (dk_at dksX3_work_2 11 rfl rfl)
theorem dX3_work_59 : decode cX3_work 59 = .ok (.lcmp, 1) := dk_148 (dk_at dksX3_work_2 14 rfl rfl)
theorem dX3_work_60 : decode cX3_work 60 = .ok (.ifCond .ge 9, 3) := dk_156 0 9 (dk_at dksX3_work_2 15 rfl rfl)
theorem dX3_work_63 : decode cX3_work 63 = .ok (.ldc2_w 401, 3) := dk_20 1 145 (dk_at dksX3_work_2 18 rfl rfl)
theorem dX3_work_66 : decode cX3_work 66 = .ok (.goto 5, 3) := dk_167 0 5 (dk_at dksX3_work_2 21 rfl rfl)
theorem dX3_work_69 : decode cX3_work 69 = .ok (.lload 7, 2) := dk_22 7 (dk_at dksX3_work_3 0 rfl rfl)
theorem dX3_work_71 : decode cX3_work 71 = .ok (.l2i, 1) := dk_136 (dk_at dksX3_work_3 2 rfl rfl)
theorem dX3_work_72 : decode cX3_work 72 = .ok (.ireturn, 1) := dk_172 (dk_at dksX3_work_3 3 rfl rfl)
abbrev cX3_pay : ByteArray := prog_26_method_67_code
def yX3_pay : MethodName := ⟨RX3, "pay", "(III)I"⟩
def dkwX3_pay_0 : List UInt8 := [42, 27, 28, 29, 182, 1, 157, 153, 0, 10, 42, 182, 1, 164, 167, 0, 4, 2, 172]
abbrev dktX3_pay_0 : List UInt8 := dkwX3_pay_0 ++ []
theorem dksX3_pay_0 : cX3_pay.data.toList.drop 0 = dktX3_pay_0 := by decide +kernel
theorem dX3_pay_0 : decode cX3_pay 0 = .ok (.aload_n 0, 1) := dk_42 (dk_at dksX3_pay_0 0 rfl rfl)
theorem dX3_pay_1 : decode cX3_pay 1 = .ok (.iload_n 1, 1) := dk_27 (dk_at dksX3_pay_0 1 rfl rfl)
theorem dX3_pay_2 : decode cX3_pay 2 = .ok (.iload_n 2, 1) := dk_28 (dk_at dksX3_pay_0 2 rfl rfl)
theorem dX3_pay_3 : decode cX3_pay 3 = .ok (.iload_n 3, 1) := dk_29 (dk_at dksX3_pay_0 3 rfl rfl)
theorem dX3_pay_4 : decode cX3_pay 4 = .ok (.invokevirtual 413, 3) := dk_182 1 157 (dk_at dksX3_pay_0 4 rfl rfl)
theorem dX3_pay_7 : decode cX3_pay 7 = .ok (.ifCond .eq 10, 3) := dk_153 0 10 (dk_at dksX3_pay_0 7 rfl rfl)
theorem dX3_pay_10 : decode cX3_pay 10 = .ok (.aload_n 0, 1) := dk_42 (dk_at dksX3_pay_0 10 rfl rfl)
theorem dX3_pay_11 : decode cX3_pay 11 = .ok (.invokevirtual 420, 3) := dk_182 1 164 (dk_at dksX3_pay_0 11 rfl rfl)
theorem dX3_pay_14 : decode cX3_pay 14 = .ok (.goto 4, 3) := dk_167 0 4 (dk_at dksX3_pay_0 14 rfl rfl)
theorem dX3_pay_17 : decode cX3_pay 17 = .ok (.iconst (-1), 1) := dk_2 (dk_at dksX3_pay_0 17 rfl rfl)
theorem dX3_pay_18 : decode cX3_pay 18 = .ok (.ireturn, 1) := dk_172 (dk_at dksX3_pay_0 18 rfl rfl)
abbrev cX3_payNow : ByteArray := prog_26_method_66_code
def yX3_payNow : MethodName := ⟨RX3, "payNow", "()I"⟩
def dkwX3_payNow_2 : List UInt8 := [172]
abbrev dktX3_payNow_2 : List UInt8 := dkwX3_payNow_2 ++ []
def dkwX3_payNow_1 : List UInt8 := [28, 182, 1, 154, 167, 0, 4, 3, 96, 60, 132, 2, 1, 167, 255, 223, 27, 3, 19, 1, 163, 184, 1, 10]
abbrev dktX3_payNow_1 : List UInt8 := dkwX3_payNow_1 ++ dktX3_payNow_2
def dkwX3_payNow_0 : List UInt8 := [3, 60, 3, 61, 28, 42, 180, 1, 140, 162, 0, 31, 27, 42, 180, 0, 77, 28, 46, 4, 160, 0, 11, 42]
abbrev dktX3_payNow_0 : List UInt8 := dkwX3_payNow_0 ++ dktX3_payNow_1
theorem dksX3_payNow_0 : cX3_payNow.data.toList.drop 0 = dktX3_payNow_0 := by decide +kernel
theorem dksX3_payNow_1 : cX3_payNow.data.toList.drop 24 = dktX3_payNow_1 := dk_seg dksX3_payNow_0 24 rfl rfl
theorem dksX3_payNow_2 : cX3_payNow.data.toList.drop 48 = dktX3_payNow_2 := dk_seg dksX3_payNow_1 24 rfl rfl
theorem dX3_payNow_0 : decode cX3_payNow 0 = .ok (.iconst 0, 1) := dk_3 (dk_at dksX3_payNow_0 0 rfl rfl)
theorem dX3_payNow_1 : decode cX3_payNow 1 = .ok (.istore_n 1, 1) := dk_60 (dk_at dksX3_payNow_0 1 rfl rfl)
theorem dX3_payNow_2 : decode cX3_payNow 2 = .ok (.iconst 0, 1) := dk_3 (dk_at dksX3_payNow_0 2 rfl rfl)
theorem dX3_payNow_3 : decode cX3_payNow 3 = .ok (.istore_n 2, 1) := dk_61 (dk_at dksX3_payNow_0 3 rfl rfl)
theorem dX3_payNow_4 : decode cX3_payNow 4 = .ok (.iload_n 2, 1) := dk_28 (dk_at dksX3_payNow_0 4 rfl rfl)
theorem dX3_payNow_5 : decode cX3_payNow 5 = .ok (.aload_n 0, 1) := dk_42 (dk_at dksX3_payNow_0 5 rfl rfl)
theorem dX3_payNow_6 : decode cX3_payNow 6 = .ok (.getfield 396, 3) := dk_180 1 140 (dk_at dksX3_payNow_0 6 rfl rfl)
theorem dX3_payNow_9 : decode cX3_payNow 9 = .ok (.if_icmp .ge 31, 3) := dk_162 0 31 (dk_at dksX3_payNow_0 9 rfl rfl)
theorem dX3_payNow_12 : decode cX3_payNow 12 = .ok (.iload_n 1, 1) := dk_27 (dk_at dksX3_payNow_0 12 rfl rfl)
theorem dX3_payNow_13 : decode cX3_payNow 13 = .ok (.aload_n 0, 1) := dk_42 (dk_at dksX3_payNow_0 13 rfl rfl)
theorem dX3_payNow_14 : decode cX3_payNow 14 = .ok (.getfield 77, 3) := dk_180 0 77 (dk_at dksX3_payNow_0 14 rfl rfl)
theorem dX3_payNow_17 : decode cX3_payNow 17 = .ok (.iload_n 2, 1) := dk_28 (dk_at dksX3_payNow_0 17 rfl rfl)
theorem dX3_payNow_18 : decode cX3_payNow 18 = .ok (.iaload, 1) := dk_46 (dk_at dksX3_payNow_0 18 rfl rfl)
theorem dX3_payNow_19 : decode cX3_payNow 19 = .ok (.iconst 1, 1) := dk_4 (dk_at dksX3_payNow_0 19 rfl rfl)
theorem dX3_payNow_20 : decode cX3_payNow 20 = .ok (.if_icmp .ne 11, 3) := dk_160 0 11 (dk_at dksX3_payNow_0 20 rfl rfl)
theorem dX3_payNow_23 : decode cX3_payNow 23 = .ok (.aload_n 0, 1) := dk_42 (dk_at dksX3_payNow_0 23 rfl rfl)
theorem dX3_payNow_24 : decode cX3_payNow 24 = .ok (.iload_n 2, 1) := dk_28 (dk_at dksX3_payNow_1 0 rfl rfl)
theorem dX3_payNow_25 : decode cX3_payNow 25 = .ok (.invokevirtual 410, 3) := dk_182 1 154 (dk_at dksX3_payNow_1 1 rfl rfl)
theorem dX3_payNow_28 : decode cX3_payNow 28 = .ok (.goto 4, 3) := dk_167 0 4 (dk_at dksX3_payNow_1 4 rfl rfl)
theorem dX3_payNow_31 : decode cX3_payNow 31 = .ok (.iconst 0, 1) := dk_3 (dk_at dksX3_payNow_1 7 rfl rfl)
theorem dX3_payNow_32 : decode cX3_payNow 32 = .ok (.iadd, 1) := dk_96 (dk_at dksX3_payNow_1 8 rfl rfl)
theorem dX3_payNow_33 : decode cX3_payNow 33 = .ok (.istore_n 1, 1) := dk_60 (dk_at dksX3_payNow_1 9 rfl rfl)
theorem dX3_payNow_34 : decode cX3_payNow 34 = .ok (.iinc 2 1, 3) := dk_132 2 1 (dk_at dksX3_payNow_1 10 rfl rfl)
theorem dX3_payNow_37 : decode cX3_payNow 37 = .ok (.goto (-33), 3) := dk_167 255 223 (dk_at dksX3_payNow_1 13 rfl rfl)
theorem dX3_payNow_40 : decode cX3_payNow 40 = .ok (.iload_n 1, 1) := dk_27 (dk_at dksX3_payNow_1 16 rfl rfl)
theorem dX3_payNow_41 : decode cX3_payNow 41 = .ok (.iconst 0, 1) := dk_3 (dk_at dksX3_payNow_1 17 rfl rfl)
theorem dX3_payNow_42 : decode cX3_payNow 42 = .ok (.ldc_w 419, 3) := dk_19 1 163 (dk_at dksX3_payNow_1 18 rfl rfl)
theorem dX3_payNow_45 : decode cX3_payNow 45 = .ok (.invokestatic 266, 3) := dk_184 1 10 (dk_at dksX3_payNow_1 21 rfl rfl)
theorem dX3_payNow_48 : decode cX3_payNow 48 = .ok (.ireturn, 1) := dk_172 (dk_at dksX3_payNow_2 0 rfl rfl)
abbrev cX3_asked : ByteArray := prog_26_method_69_code
def yX3_asked : MethodName := ⟨RX3, "asked", "(III)I"⟩
def dkwX3_asked_0 : List UInt8 := [42, 27, 28, 29, 182, 1, 157, 153, 0, 10, 42, 182, 1, 167, 167, 0, 4, 2, 172]
abbrev dktX3_asked_0 : List UInt8 := dkwX3_asked_0 ++ []
theorem dksX3_asked_0 : cX3_asked.data.toList.drop 0 = dktX3_asked_0 := by decide +kernel
theorem dX3_asked_0 : decode cX3_asked 0 = .ok (.aload_n 0, 1) := dk_42 (dk_at dksX3_asked_0 0 rfl rfl)
theorem dX3_asked_1 : decode cX3_asked 1 = .ok (.iload_n 1, 1) := dk_27 (dk_at dksX3_asked_0 1 rfl rfl)
theorem dX3_asked_2 : decode cX3_asked 2 = .ok (.iload_n 2, 1) := dk_28 (dk_at dksX3_asked_0 2 rfl rfl)
theorem dX3_asked_3 : decode cX3_asked 3 = .ok (.iload_n 3, 1) := dk_29 (dk_at dksX3_asked_0 3 rfl rfl)
theorem dX3_asked_4 : decode cX3_asked 4 = .ok (.invokevirtual 413, 3) := dk_182 1 157 (dk_at dksX3_asked_0 4 rfl rfl)
theorem dX3_asked_7 : decode cX3_asked 7 = .ok (.ifCond .eq 10, 3) := dk_153 0 10 (dk_at dksX3_asked_0 7 rfl rfl)
theorem dX3_asked_10 : decode cX3_asked 10 = .ok (.aload_n 0, 1) := dk_42 (dk_at dksX3_asked_0 10 rfl rfl)
theorem dX3_asked_11 : decode cX3_asked 11 = .ok (.invokevirtual 423, 3) := dk_182 1 167 (dk_at dksX3_asked_0 11 rfl rfl)
theorem dX3_asked_14 : decode cX3_asked 14 = .ok (.goto 4, 3) := dk_167 0 4 (dk_at dksX3_asked_0 14 rfl rfl)
theorem dX3_asked_17 : decode cX3_asked 17 = .ok (.iconst (-1), 1) := dk_2 (dk_at dksX3_asked_0 17 rfl rfl)
theorem dX3_asked_18 : decode cX3_asked 18 = .ok (.ireturn, 1) := dk_172 (dk_at dksX3_asked_0 18 rfl rfl)
abbrev cX3_askedNow : ByteArray := prog_26_method_68_code
def yX3_askedNow : MethodName := ⟨RX3, "askedNow", "()I"⟩
def dkwX3_askedNow_2 : List UInt8 := [167, 255, 214, 27, 4, 16, 8, 184, 1, 10, 172]
abbrev dktX3_askedNow_2 : List UInt8 := dkwX3_askedNow_2 ++ []
def dkwX3_askedNow_1 : List UInt8 := [182, 1, 154, 167, 0, 4, 4, 62, 29, 27, 164, 0, 7, 29, 167, 0, 4, 27, 60, 132, 2, 1]
abbrev dktX3_askedNow_1 : List UInt8 := dkwX3_askedNow_1 ++ dktX3_askedNow_2
def dkwX3_askedNow_0 : List UInt8 := [4, 60, 3, 61, 28, 42, 180, 1, 140, 162, 0, 40, 42, 180, 0, 77, 28, 46, 5, 160, 0, 11, 42, 28]
abbrev dktX3_askedNow_0 : List UInt8 := dkwX3_askedNow_0 ++ dktX3_askedNow_1
theorem dksX3_askedNow_0 : cX3_askedNow.data.toList.drop 0 = dktX3_askedNow_0 := by decide +kernel
theorem dksX3_askedNow_1 : cX3_askedNow.data.toList.drop 24 = dktX3_askedNow_1 := dk_seg dksX3_askedNow_0 24 rfl rfl
theorem dksX3_askedNow_2 : cX3_askedNow.data.toList.drop 46 = dktX3_askedNow_2 := dk_seg dksX3_askedNow_1 22 rfl rfl
theorem dX3_askedNow_0 : decode cX3_askedNow 0 = .ok (.iconst 1, 1) := dk_4 (dk_at dksX3_askedNow_0 0 rfl rfl)
theorem dX3_askedNow_1 : decode cX3_askedNow 1 = .ok (.istore_n 1, 1) := dk_60 (dk_at dksX3_askedNow_0 1 rfl rfl)
theorem dX3_askedNow_2 : decode cX3_askedNow 2 = .ok (.iconst 0, 1) := dk_3 (dk_at dksX3_askedNow_0 2 rfl rfl)
theorem dX3_askedNow_3 : decode cX3_askedNow 3 = .ok (.istore_n 2, 1) := dk_61 (dk_at dksX3_askedNow_0 3 rfl rfl)
theorem dX3_askedNow_4 : decode cX3_askedNow 4 = .ok (.iload_n 2, 1) := dk_28 (dk_at dksX3_askedNow_0 4 rfl rfl)
theorem dX3_askedNow_5 : decode cX3_askedNow 5 = .ok (.aload_n 0, 1) := dk_42 (dk_at dksX3_askedNow_0 5 rfl rfl)
theorem dX3_askedNow_6 : decode cX3_askedNow 6 = .ok (.getfield 396, 3) := dk_180 1 140 (dk_at dksX3_askedNow_0 6 rfl rfl)
theorem dX3_askedNow_9 : decode cX3_askedNow 9 = .ok (.if_icmp .ge 40, 3) := dk_162 0 40 (dk_at dksX3_askedNow_0 9 rfl rfl)
theorem dX3_askedNow_12 : decode cX3_askedNow 12 = .ok (.aload_n 0, 1) := dk_42 (dk_at dksX3_askedNow_0 12 rfl rfl)
theorem dX3_askedNow_13 : decode cX3_askedNow 13 = .ok (.getfield 77, 3) := dk_180 0 77 (dk_at dksX3_askedNow_0 13 rfl rfl)
theorem dX3_askedNow_16 : decode cX3_askedNow 16 = .ok (.iload_n 2, 1) := dk_28 (dk_at dksX3_askedNow_0 16 rfl rfl)
theorem dX3_askedNow_17 : decode cX3_askedNow 17 = .ok (.iaload, 1) := dk_46 (dk_at dksX3_askedNow_0 17 rfl rfl)
theorem dX3_askedNow_18 : decode cX3_askedNow 18 = .ok (.iconst 2, 1) := dk_5 (dk_at dksX3_askedNow_0 18 rfl rfl)
theorem dX3_askedNow_19 : decode cX3_askedNow 19 = .ok (.if_icmp .ne 11, 3) := dk_160 0 11 (dk_at dksX3_askedNow_0 19 rfl rfl)
theorem dX3_askedNow_22 : decode cX3_askedNow 22 = .ok (.aload_n 0, 1) := dk_42 (dk_at dksX3_askedNow_0 22 rfl rfl)
theorem dX3_askedNow_23 : decode cX3_askedNow 23 = .ok (.iload_n 2, 1) := dk_28 (dk_at dksX3_askedNow_0 23 rfl rfl)
theorem dX3_askedNow_24 : decode cX3_askedNow 24 = .ok (.invokevirtual 410, 3) := dk_182 1 154 (dk_at dksX3_askedNow_1 0 rfl rfl)
theorem dX3_askedNow_27 : decode cX3_askedNow 27 = .ok (.goto 4, 3) := dk_167 0 4 (dk_at dksX3_askedNow_1 3 rfl rfl)
theorem dX3_askedNow_30 : decode cX3_askedNow 30 = .ok (.iconst 1, 1) := dk_4 (dk_at dksX3_askedNow_1 6 rfl rfl)
theorem dX3_askedNow_31 : decode cX3_askedNow 31 = .ok (.istore_n 3, 1) := dk_62 (dk_at dksX3_askedNow_1 7 rfl rfl)
theorem dX3_askedNow_32 : decode cX3_askedNow 32 = .ok (.iload_n 3, 1) := dk_29 (dk_at dksX3_askedNow_1 8 rfl rfl)
theorem dX3_askedNow_33 : decode cX3_askedNow 33 = .ok (.iload_n 1, 1) := dk_27 (dk_at dksX3_askedNow_1 9 rfl rfl)
theorem dX3_askedNow_34 : decode cX3_askedNow 34 = .ok (.if_icmp .le 7, 3) := dk_164 0 7 (dk_at dksX3_askedNow_1 10 rfl rfl)
theorem dX3_askedNow_37 : decode cX3_askedNow 37 = .ok (.iload_n 3, 1) := dk_29 (dk_at dksX3_askedNow_1 13 rfl rfl)
theorem dX3_askedNow_38 : decode cX3_askedNow 38 = .ok (.goto 4, 3) := dk_167 0 4 (dk_at dksX3_askedNow_1 14 rfl rfl)
theorem dX3_askedNow_41 : decode cX3_askedNow 41 = .ok (.iload_n 1, 1) := dk_27 (dk_at dksX3_askedNow_1 17 rfl rfl)
theorem dX3_askedNow_42 : decode cX3_askedNow 42 = .ok (.istore_n 1, 1) := dk_60 (dk_at dksX3_askedNow_1 18 rfl rfl)
theorem dX3_askedNow_43 : decode cX3_askedNow 43 = .ok (.iinc 2 1, 3) := dk_132 2 1 (dk_at dksX3_askedNow_1 19 rfl rfl)
theorem dX3_askedNow_46 : decode cX3_askedNow 46 = .ok (.goto (-42), 3) := dk_167 255 214 (dk_at dksX3_askedNow_2 0 rfl rfl)
theorem dX3_askedNow_49 : decode cX3_askedNow 49 = .ok (.iload_n 1, 1) := dk_27 (dk_at dksX3_askedNow_2 3 rfl rfl)
theorem dX3_askedNow_50 : decode cX3_askedNow 50 = .ok (.iconst 1, 1) := dk_4 (dk_at dksX3_askedNow_2 4 rfl rfl)
theorem dX3_askedNow_51 : decode cX3_askedNow 51 = .ok (.bipush 8, 2) := dk_16 8 (dk_at dksX3_askedNow_2 5 rfl rfl)
theorem dX3_askedNow_53 : decode cX3_askedNow 53 = .ok (.invokestatic 266, 3) := dk_184 1 10 (dk_at dksX3_askedNow_2 7 rfl rfl)
theorem dX3_askedNow_56 : decode cX3_askedNow 56 = .ok (.ireturn, 1) := dk_172 (dk_at dksX3_askedNow_2 10 rfl rfl)
abbrev cX3_turn : ByteArray := prog_26_method_71_code
def yX3_turn : MethodName := ⟨RX3, "turn", "(IIII)I"⟩
def dkwX3_turn_2 : List UInt8 := [21, 4, 46, 167, 0, 5, 16, 252, 172]
abbrev dktX3_turn_2 : List UInt8 := dkwX3_turn_2 ++ []
def dkwX3_turn_1 : List UInt8 := [160, 0, 10, 42, 182, 1, 170, 167, 0, 4, 3, 54, 5, 21, 4, 21, 5, 162, 0, 13, 42, 180, 0, 104]
abbrev dktX3_turn_1 : List UInt8 := dkwX3_turn_1 ++ dktX3_turn_2
def dkwX3_turn_0 : List UInt8 := [42, 27, 28, 29, 182, 1, 157, 153, 0, 8, 21, 4, 156, 0, 5, 2, 172, 42, 182, 1, 160, 16, 252]
abbrev dktX3_turn_0 : List UInt8 := dkwX3_turn_0 ++ dktX3_turn_1
theorem dksX3_turn_0 : cX3_turn.data.toList.drop 0 = dktX3_turn_0 := by decide +kernel
theorem dksX3_turn_1 : cX3_turn.data.toList.drop 23 = dktX3_turn_1 := dk_seg dksX3_turn_0 23 rfl rfl
theorem dksX3_turn_2 : cX3_turn.data.toList.drop 47 = dktX3_turn_2 := dk_seg dksX3_turn_1 24 rfl rfl
theorem dX3_turn_0 : decode cX3_turn 0 = .ok (.aload_n 0, 1) := dk_42 (dk_at dksX3_turn_0 0 rfl rfl)
theorem dX3_turn_1 : decode cX3_turn 1 = .ok (.iload_n 1, 1) := dk_27 (dk_at dksX3_turn_0 1 rfl rfl)
theorem dX3_turn_2 : decode cX3_turn 2 = .ok (.iload_n 2, 1) := dk_28 (dk_at dksX3_turn_0 2 rfl rfl)
theorem dX3_turn_3 : decode cX3_turn 3 = .ok (.iload_n 3, 1) := dk_29 (dk_at dksX3_turn_0 3 rfl rfl)
theorem dX3_turn_4 : decode cX3_turn 4 = .ok (.invokevirtual 413, 3) := dk_182 1 157 (dk_at dksX3_turn_0 4 rfl rfl)
theorem dX3_turn_7 : decode cX3_turn 7 = .ok (.ifCond .eq 8, 3) := dk_153 0 8 (dk_at dksX3_turn_0 7 rfl rfl)
theorem dX3_turn_10 : decode cX3_turn 10 = .ok (.iload 4, 2) := dk_21 4 (dk_at dksX3_turn_0 10 rfl rfl)
theorem dX3_turn_12 : decode cX3_turn 12 = .ok (.ifCond .ge 5, 3) := dk_156 0 5 (dk_at dksX3_turn_0 12 rfl rfl)
theorem dX3_turn_15 : decode cX3_turn 15 = .ok (.iconst (-1), 1) := dk_2 (dk_at dksX3_turn_0 15 rfl rfl)
theorem dX3_turn_16 : decode cX3_turn 16 = .ok (.ireturn, 1) := dk_172 (dk_at dksX3_turn_0 16 rfl rfl)
theorem dX3_turn_17 : decode cX3_turn 17 = .ok (.aload_n 0, 1) := dk_42 (dk_at dksX3_turn_0 17 rfl rfl)
theorem dX3_turn_18 : decode cX3_turn 18 = .ok (.invokevirtual 416, 3) := dk_182 1 160 (dk_at dksX3_turn_0 18 rfl rfl)
theorem dX3_turn_21 : decode cX3_turn 21 = .ok (.bipush (-4), 2) := dk_16 252 (dk_at dksX3_turn_0 21 rfl rfl)
theorem dX3_turn_23 : decode cX3_turn 23 = .ok (.if_icmp .ne 10, 3) := dk_160 0 10 (dk_at dksX3_turn_1 0 rfl rfl)
theorem dX3_turn_26 : decode cX3_turn 26 = .ok (.aload_n 0, 1) := dk_42 (dk_at dksX3_turn_1 3 rfl rfl)
theorem dX3_turn_27 : decode cX3_turn 27 = .ok (.invokevirtual 426, 3) := dk_182 1 170 (dk_at dksX3_turn_1 4 rfl rfl)
theorem dX3_turn_30 : decode cX3_turn 30 = .ok (.goto 4, 3) := dk_167 0 4 (dk_at dksX3_turn_1 7 rfl rfl)
theorem dX3_turn_33 : decode cX3_turn 33 = .ok (.iconst 0, 1) := dk_3 (dk_at dksX3_turn_1 10 rfl rfl)
theorem dX3_turn_34 : decode cX3_turn 34 = .ok (.istore 5, 2) := dk_54 5 (dk_at dksX3_turn_1 11 rfl rfl)
theorem dX3_turn_36 : decode cX3_turn 36 = .ok (.iload 4, 2) := dk_21 4 (dk_at dksX3_turn_1 13 rfl rfl)
theorem dX3_turn_38 : decode cX3_turn 38 = .ok (.iload 5, 2) := dk_21 5 (dk_at dksX3_turn_1 15 rfl rfl)
theorem dX3_turn_40 : decode cX3_turn 40 = .ok (.if_icmp .ge 13, 3) := dk_162 0 13 (dk_at dksX3_turn_1 17 rfl rfl)
theorem dX3_turn_43 : decode cX3_turn 43 = .ok (.aload_n 0, 1) := dk_42 (dk_at dksX3_turn_1 20 rfl rfl)
theorem dX3_turn_44 : decode cX3_turn 44 = .ok (.getfield 104, 3) := dk_180 0 104 (dk_at dksX3_turn_1 21 rfl rfl)
theorem dX3_turn_47 : decode cX3_turn 47 = .ok (.iload 4, 2) := dk_21 4 (dk_at dksX3_turn_2 0 rfl rfl)
theorem dX3_turn_49 : decode cX3_turn 49 = .ok (.iaload, 1) := dk_46 (dk_at dksX3_turn_2 2 rfl rfl)
theorem dX3_turn_50 : decode cX3_turn 50 = .ok (.goto 5, 3) := dk_167 0 5 (dk_at dksX3_turn_2 3 rfl rfl)
theorem dX3_turn_53 : decode cX3_turn 53 = .ok (.bipush (-4), 2) := dk_16 252 (dk_at dksX3_turn_2 6 rfl rfl)
theorem dX3_turn_55 : decode cX3_turn 55 = .ok (.ireturn, 1) := dk_172 (dk_at dksX3_turn_2 8 rfl rfl)
abbrev cX3_findTurn : ByteArray := prog_26_method_70_code
def yX3_findTurn : MethodName := ⟨RX3, "findTurn", "()I"⟩
def dkwX3_findTurn_4 : List UInt8 := [167, 0, 4, 3, 172]
abbrev dktX3_findTurn_4 : List UInt8 := dkwX3_findTurn_4 ++ []
def dkwX3_findTurn_3 : List UInt8 := [180, 0, 104, 28, 21, 4, 79, 132, 2, 1, 132, 3, 1, 167, 255, 181, 28, 27, 160, 0, 7, 28]
abbrev dktX3_findTurn_3 : List UInt8 := dkwX3_findTurn_3 ++ dktX3_findTurn_4
def dkwX3_findTurn_2 : List UInt8 := [42, 180, 1, 44, 161, 0, 30, 42, 180, 0, 53, 21, 4, 46, 42, 180, 0, 98, 7, 46, 161, 0, 14, 42]
abbrev dktX3_findTurn_2 : List UInt8 := dkwX3_findTurn_2 ++ dktX3_findTurn_3
def dkwX3_findTurn_1 : List UInt8 := [54, 4, 28, 27, 162, 0, 54, 42, 180, 0, 62, 21, 4, 51, 154, 0, 44, 42, 180, 0, 59, 21, 4, 46]
abbrev dktX3_findTurn_1 : List UInt8 := dkwX3_findTurn_1 ++ dktX3_findTurn_2
def dkwX3_findTurn_0 : List UInt8 := [42, 182, 1, 167, 60, 3, 61, 3, 62, 29, 42, 180, 1, 31, 162, 0, 73, 42, 180, 0, 71, 29, 46]
abbrev dktX3_findTurn_0 : List UInt8 := dkwX3_findTurn_0 ++ dktX3_findTurn_1
theorem dksX3_findTurn_0 : cX3_findTurn.data.toList.drop 0 = dktX3_findTurn_0 := by decide +kernel
theorem dksX3_findTurn_1 : cX3_findTurn.data.toList.drop 23 = dktX3_findTurn_1 := dk_seg dksX3_findTurn_0 23 rfl rfl
theorem dksX3_findTurn_2 : cX3_findTurn.data.toList.drop 47 = dktX3_findTurn_2 := dk_seg dksX3_findTurn_1 24 rfl rfl
theorem dksX3_findTurn_3 : cX3_findTurn.data.toList.drop 71 = dktX3_findTurn_3 := dk_seg dksX3_findTurn_2 24 rfl rfl
theorem dksX3_findTurn_4 : cX3_findTurn.data.toList.drop 93 = dktX3_findTurn_4 := dk_seg dksX3_findTurn_3 22 rfl rfl
theorem dX3_findTurn_0 : decode cX3_findTurn 0 = .ok (.aload_n 0, 1) := dk_42 (dk_at dksX3_findTurn_0 0 rfl rfl)
theorem dX3_findTurn_1 : decode cX3_findTurn 1 = .ok (.invokevirtual 423, 3) := dk_182 1 167 (dk_at dksX3_findTurn_0 1 rfl rfl)
theorem dX3_findTurn_4 : decode cX3_findTurn 4 = .ok (.istore_n 1, 1) := dk_60 (dk_at dksX3_findTurn_0 4 rfl rfl)
theorem dX3_findTurn_5 : decode cX3_findTurn 5 = .ok (.iconst 0, 1) := dk_3 (dk_at dksX3_findTurn_0 5 rfl rfl)
theorem dX3_findTurn_6 : decode cX3_findTurn 6 = .ok (.istore_n 2, 1) := dk_61 (dk_at dksX3_findTurn_0 6 rfl rfl)
theorem dX3_findTurn_7 : decode cX3_findTurn 7 = .ok (.iconst 0, 1) := dk_3 (dk_at dksX3_findTurn_0 7 rfl rfl)
theorem dX3_findTurn_8 : decode cX3_findTurn 8 = .ok (.istore_n 3, 1) := dk_62 (dk_at dksX3_findTurn_0 8 rfl rfl)
theorem dX3_findTurn_9 : decode cX3_findTurn 9 = .ok (.iload_n 3, 1) := dk_29 (dk_at dksX3_findTurn_0 9 rfl rfl)
theorem dX3_findTurn_10 : decode cX3_findTurn 10 = .ok (.aload_n 0, 1) := dk_42 (dk_at dksX3_findTurn_0 10 rfl rfl)
theorem dX3_findTurn_11 : decode cX3_findTurn 11 = .ok (.getfield 287, 3) := dk_180 1 31 (dk_at dksX3_findTurn_0 11 rfl rfl)
theorem dX3_findTurn_14 : decode cX3_findTurn 14 = .ok (.if_icmp .ge 73, 3) := dk_162 0 73 (dk_at dksX3_findTurn_0 14 rfl rfl)
theorem dX3_findTurn_17 : decode cX3_findTurn 17 = .ok (.aload_n 0, 1) := dk_42 (dk_at dksX3_findTurn_0 17 rfl rfl)
theorem dX3_findTurn_18 : decode cX3_findTurn 18 = .ok (.getfield 71, 3) := dk_180 0 71 (dk_at dksX3_findTurn_0 18 rfl rfl)
theorem dX3_findTurn_21 : decode cX3_findTurn 21 = .ok (.iload_n 3, 1) := dk_29 (dk_at dksX3_findTurn_0 21 rfl rfl)
theorem dX3_findTurn_22 : decode cX3_findTurn 22 = .ok (.iaload, 1) := dk_46 (dk_at dksX3_findTurn_0 22 rfl rfl)
theorem dX3_findTurn_23 : decode cX3_findTurn 23 = .ok (.istore 4, 2) := dk_54 4 (dk_at dksX3_findTurn_1 0 rfl rfl)
theorem dX3_findTurn_25 : decode cX3_findTurn 25 = .ok (.iload_n 2, 1) := dk_28 (dk_at dksX3_findTurn_1 2 rfl rfl)
theorem dX3_findTurn_26 : decode cX3_findTurn 26 = .ok (.iload_n 1, 1) := dk_27 (dk_at dksX3_findTurn_1 3 rfl rfl)
theorem dX3_findTurn_27 : decode cX3_findTurn 27 = .ok (.if_icmp .ge 54, 3) := dk_162 0 54 (dk_at dksX3_findTurn_1 4 rfl rfl)
theorem dX3_findTurn_30 : decode cX3_findTurn 30 = .ok (.aload_n 0, 1) := dk_42 (dk_at dksX3_findTurn_1 7 rfl rfl)
theorem dX3_findTurn_31 : decode cX3_findTurn 31 = .ok (.getfield 62, 3) := dk_180 0 62 (dk_at dksX3_findTurn_1 8 rfl rfl)
theorem dX3_findTurn_34 : decode cX3_findTurn 34 = .ok (.iload 4, 2) := dk_21 4 (dk_at dksX3_findTurn_1 11 rfl rfl)
theorem dX3_findTurn_36 : decode cX3_findTurn 36 = .ok (.baload, 1) := dk_51 (dk_at dksX3_findTurn_1 13 rfl rfl)
theorem dX3_findTurn_37 : decode cX3_findTurn 37 = .ok (.ifCond .ne 44, 3) := dk_154 0 44 (dk_at dksX3_findTurn_1 14 rfl rfl)
theorem dX3_findTurn_40 : decode cX3_findTurn 40 = .ok (.aload_n 0, 1) := dk_42 (dk_at dksX3_findTurn_1 17 rfl rfl)
theorem dX3_findTurn_41 : decode cX3_findTurn 41 = .ok (.getfield 59, 3) := dk_180 0 59 (dk_at dksX3_findTurn_1 18 rfl rfl)
theorem dX3_findTurn_44 : decode cX3_findTurn 44 = .ok (.iload 4, 2) := dk_21 4 (dk_at dksX3_findTurn_1 21 rfl rfl)
theorem dX3_findTurn_46 : decode cX3_findTurn 46 = .ok (.iaload, 1) := dk_46 (dk_at dksX3_findTurn_1 23 rfl rfl)
theorem dX3_findTurn_47 : decode cX3_findTurn 47 = .ok (.aload_n 0, 1) := dk_42 (dk_at dksX3_findTurn_2 0 rfl rfl)
theorem dX3_findTurn_48 : decode cX3_findTurn 48 = .ok (.getfield 300, 3) := dk_180 1 44 (dk_at dksX3_findTurn_2 1 rfl rfl)
theorem dX3_findTurn_51 : decode cX3_findTurn 51 = .ok (.if_icmp .lt 30, 3) := dk_161 0 30 (dk_at dksX3_findTurn_2 4 rfl rfl)
theorem dX3_findTurn_54 : decode cX3_findTurn 54 = .ok (.aload_n 0, 1) := dk_42 (dk_at dksX3_findTurn_2 7 rfl rfl)
theorem dX3_findTurn_55 : decode cX3_findTurn 55 = .ok (.getfield 53, 3) := dk_180 0 53 (dk_at dksX3_findTurn_2 8 rfl rfl)
theorem dX3_findTurn_58 : decode cX3_findTurn 58 = .ok (.iload 4, 2) := dk_21 4 (dk_at dksX3_findTurn_2 11 rfl rfl)
theorem dX3_findTurn_60 : decode cX3_findTurn 60 = .ok (.iaload, 1) := dk_46 (dk_at dksX3_findTurn_2 13 rfl rfl)
theorem dX3_findTurn_61 : decode cX3_findTurn 61 = .ok (.aload_n 0, 1) := dk_42 (dk_at dksX3_findTurn_2 14 rfl rfl)
theorem dX3_findTurn_62 : decode cX3_findTurn 62 = .ok (.getfield 98, 3) := dk_180 0 98 (dk_at dksX3_findTurn_2 15 rfl rfl)
theorem dX3_findTurn_65 : decode cX3_findTurn 65 = .ok (.iconst 4, 1) := dk_7 (dk_at dksX3_findTurn_2 18 rfl rfl)
theorem dX3_findTurn_66 : decode cX3_findTurn 66 = .ok (.iaload, 1) := dk_46 (dk_at dksX3_findTurn_2 19 rfl rfl)
theorem dX3_findTurn_67 : decode cX3_findTurn 67 = .ok (.if_icmp .lt 14, 3) := dk_161 0 14 (dk_at dksX3_findTurn_2 20 rfl rfl)
theorem dX3_findTurn_70 : decode cX3_findTurn 70 = .ok (.aload_n 0, 1) := dk_42 (dk_at dksX3_findTurn_2 23 rfl rfl)
theorem dX3_findTurn_71 : decode cX3_findTurn 71 = .ok (.getfield 104, 3) := dk_180 0 104 (dk_at dksX3_findTurn_3 0 rfl rfl)
theorem dX3_findTurn_74 : decode cX3_findTurn 74 = .ok (.iload_n 2, 1) := dk_28 (dk_at dksX3_findTurn_3 3 rfl rfl)
theorem dX3_findTurn_75 : decode cX3_findTurn 75 = .ok (.iload 4, 2) := dk_21 4 (dk_at dksX3_findTurn_3 4 rfl rfl)
theorem dX3_findTurn_77 : decode cX3_findTurn 77 = .ok (.iastore, 1) := dk_79 (dk_at dksX3_findTurn_3 6 rfl rfl)
theorem dX3_findTurn_78 : decode cX3_findTurn 78 = .ok (.iinc 2 1, 3) := dk_132 2 1 (dk_at dksX3_findTurn_3 7 rfl rfl)
theorem dX3_findTurn_81 : decode cX3_findTurn 81 = .ok (.iinc 3 1, 3) := dk_132 3 1 (dk_at dksX3_findTurn_3 10 rfl rfl)
theorem dX3_findTurn_84 : decode cX3_findTurn 84 = .ok (.goto (-75), 3) := dk_167 255 181 (dk_at dksX3_findTurn_3 13 rfl rfl)
theorem dX3_findTurn_87 : decode cX3_findTurn 87 = .ok (.iload_n 2, 1) := dk_28 (dk_at dksX3_findTurn_3 16 rfl rfl)
theorem dX3_findTurn_88 : decode cX3_findTurn 88 = .ok (.iload_n 1, 1) := dk_27 (dk_at dksX3_findTurn_3 17 rfl rfl)
theorem dX3_findTurn_89 : decode cX3_findTurn 89 = .ok (.if_icmp .ne 7, 3) := dk_160 0 7 (dk_at dksX3_findTurn_3 18 rfl rfl)
theorem dX3_findTurn_92 : decode cX3_findTurn 92 = .ok (.iload_n 2, 1) := dk_28 (dk_at dksX3_findTurn_3 21 rfl rfl)
theorem dX3_findTurn_93 : decode cX3_findTurn 93 = .ok (.goto 4, 3) := dk_167 0 4 (dk_at dksX3_findTurn_4 0 rfl rfl)
theorem dX3_findTurn_96 : decode cX3_findTurn 96 = .ok (.iconst 0, 1) := dk_3 (dk_at dksX3_findTurn_4 3 rfl rfl)
theorem dX3_findTurn_97 : decode cX3_findTurn 97 = .ok (.ireturn, 1) := dk_172 (dk_at dksX3_findTurn_4 4 rfl rfl)
abbrev cX3_go : ByteArray := prog_26_method_72_code
def yX3_go : MethodName := ⟨RX3, "go", "(III)I"⟩
def dkwX3_go_7 : List UInt8 := [167, 255, 143, 21, 4, 172]
abbrev dktX3_go_7 : List UInt8 := dkwX3_go_7 ++ []
def dkwX3_go_6 : List UInt8 := [132, 8, 1, 167, 255, 226, 42, 180, 0, 71, 42, 180, 1, 31, 4, 100, 21, 7, 79, 132, 6, 1]
abbrev dktX3_go_6 : List UInt8 := dkwX3_go_6 ++ dktX3_go_7
def dkwX3_go_5 : List UInt8 := [42, 180, 1, 31, 162, 0, 25, 42, 180, 0, 71, 21, 8, 42, 180, 0, 71, 21, 8, 4, 96, 46, 79]
abbrev dktX3_go_5 : List UInt8 := dkwX3_go_5 ++ dktX3_go_6
def dkwX3_go_4 : List UInt8 := [180, 1, 173, 21, 5, 16, 10, 108, 96, 181, 1, 173, 42, 21, 7, 182, 1, 41, 54, 8, 21, 8, 4, 96]
abbrev dktX3_go_4 : List UInt8 := dkwX3_go_4 ++ dktX3_go_5
def dkwX3_go_3 : List UInt8 := [4, 84, 42, 180, 0, 65, 21, 7, 92, 46, 21, 5, 21, 5, 16, 10, 108, 100, 96, 79, 42, 89]
abbrev dktX3_go_3 : List UInt8 := dkwX3_go_3 ++ dktX3_go_4
def dkwX3_go_2 : List UInt8 := [54, 6, 21, 6, 21, 4, 162, 0, 112, 42, 180, 0, 104, 21, 6, 46, 54, 7, 42, 180, 0, 62, 21, 7]
abbrev dktX3_go_2 : List UInt8 := dkwX3_go_2 ++ dktX3_go_3
def dkwX3_go_1 : List UInt8 := [42, 182, 1, 170, 54, 4, 21, 4, 154, 0, 6, 16, 252, 172, 42, 182, 1, 164, 21, 4, 108, 54, 5, 3]
abbrev dktX3_go_1 : List UInt8 := dkwX3_go_1 ++ dktX3_go_2
def dkwX3_go_0 : List UInt8 := [42, 27, 28, 29, 182, 1, 157, 154, 0, 5, 2, 172, 42, 182, 1, 160, 16, 252, 159, 0, 6, 16, 254, 172]
abbrev dktX3_go_0 : List UInt8 := dkwX3_go_0 ++ dktX3_go_1
theorem dksX3_go_0 : cX3_go.data.toList.drop 0 = dktX3_go_0 := by decide +kernel
theorem dksX3_go_1 : cX3_go.data.toList.drop 24 = dktX3_go_1 := dk_seg dksX3_go_0 24 rfl rfl
theorem dksX3_go_2 : cX3_go.data.toList.drop 48 = dktX3_go_2 := dk_seg dksX3_go_1 24 rfl rfl
theorem dksX3_go_3 : cX3_go.data.toList.drop 72 = dktX3_go_3 := dk_seg dksX3_go_2 24 rfl rfl
theorem dksX3_go_4 : cX3_go.data.toList.drop 94 = dktX3_go_4 := dk_seg dksX3_go_3 22 rfl rfl
theorem dksX3_go_5 : cX3_go.data.toList.drop 118 = dktX3_go_5 := dk_seg dksX3_go_4 24 rfl rfl
theorem dksX3_go_6 : cX3_go.data.toList.drop 141 = dktX3_go_6 := dk_seg dksX3_go_5 23 rfl rfl
theorem dksX3_go_7 : cX3_go.data.toList.drop 163 = dktX3_go_7 := dk_seg dksX3_go_6 22 rfl rfl
theorem dX3_go_0 : decode cX3_go 0 = .ok (.aload_n 0, 1) := dk_42 (dk_at dksX3_go_0 0 rfl rfl)
theorem dX3_go_1 : decode cX3_go 1 = .ok (.iload_n 1, 1) := dk_27 (dk_at dksX3_go_0 1 rfl rfl)
theorem dX3_go_2 : decode cX3_go 2 = .ok (.iload_n 2, 1) := dk_28 (dk_at dksX3_go_0 2 rfl rfl)
theorem dX3_go_3 : decode cX3_go 3 = .ok (.iload_n 3, 1) := dk_29 (dk_at dksX3_go_0 3 rfl rfl)
theorem dX3_go_4 : decode cX3_go 4 = .ok (.invokevirtual 413, 3) := dk_182 1 157 (dk_at dksX3_go_0 4 rfl rfl)
theorem dX3_go_7 : decode cX3_go 7 = .ok (.ifCond .ne 5, 3) := dk_154 0 5 (dk_at dksX3_go_0 7 rfl rfl)
theorem dX3_go_10 : decode cX3_go 10 = .ok (.iconst (-1), 1) := dk_2 (dk_at dksX3_go_0 10 rfl rfl)
theorem dX3_go_11 : decode cX3_go 11 = .ok (.ireturn, 1) := dk_172 (dk_at dksX3_go_0 11 rfl rfl)
theorem dX3_go_12 : decode cX3_go 12 = .ok (.aload_n 0, 1) := dk_42 (dk_at dksX3_go_0 12 rfl rfl)
theorem dX3_go_13 : decode cX3_go 13 = .ok (.invokevirtual 416, 3) := dk_182 1 160 (dk_at dksX3_go_0 13 rfl rfl)
theorem dX3_go_16 : decode cX3_go 16 = .ok (.bipush (-4), 2) := dk_16 252 (dk_at dksX3_go_0 16 rfl rfl)
theorem dX3_go_18 : decode cX3_go 18 = .ok (.if_icmp .eq 6, 3) := dk_159 0 6 (dk_at dksX3_go_0 18 rfl rfl)
theorem dX3_go_21 : decode cX3_go 21 = .ok (.bipush (-2), 2) := dk_16 254 (dk_at dksX3_go_0 21 rfl rfl)
theorem dX3_go_23 : decode cX3_go 23 = .ok (.ireturn, 1) := dk_172 (dk_at dksX3_go_0 23 rfl rfl)
theorem dX3_go_24 : decode cX3_go 24 = .ok (.aload_n 0, 1) := dk_42 (dk_at dksX3_go_1 0 rfl rfl)
theorem dX3_go_25 : decode cX3_go 25 = .ok (.invokevirtual 426, 3) := dk_182 1 170 (dk_at dksX3_go_1 1 rfl rfl)
theorem dX3_go_28 : decode cX3_go 28 = .ok (.istore 4, 2) := dk_54 4 (dk_at dksX3_go_1 4 rfl rfl)
theorem dX3_go_30 : decode cX3_go 30 = .ok (.iload 4, 2) := dk_21 4 (dk_at dksX3_go_1 6 rfl rfl)
theorem dX3_go_32 : decode cX3_go 32 = .ok (.ifCond .ne 6, 3) := dk_154 0 6 (dk_at dksX3_go_1 8 rfl rfl)
theorem dX3_go_35 : decode cX3_go 35 = .ok (.bipush (-4), 2) := dk_16 252 (dk_at dksX3_go_1 11 rfl rfl)
theorem dX3_go_37 : decode cX3_go 37 = .ok (.ireturn, 1) := dk_172 (dk_at dksX3_go_1 13 rfl rfl)
theorem dX3_go_38 : decode cX3_go 38 = .ok (.aload_n 0, 1) := dk_42 (dk_at dksX3_go_1 14 rfl rfl)
theorem dX3_go_39 : decode cX3_go 39 = .ok (.invokevirtual 420, 3) := dk_182 1 164 (dk_at dksX3_go_1 15 rfl rfl)
theorem dX3_go_42 : decode cX3_go 42 = .ok (.iload 4, 2) := dk_21 4 (dk_at dksX3_go_1 18 rfl rfl)
theorem dX3_go_44 : decode cX3_go 44 = .ok (.idiv, 1) := dk_108 (dk_at dksX3_go_1 20 rfl rfl)
theorem dX3_go_45 : decode cX3_go 45 = .ok (.istore 5, 2) := dk_54 5 (dk_at dksX3_go_1 21 rfl rfl)
theorem dX3_go_47 : decode cX3_go 47 = .ok (.iconst 0, 1) := dk_3 (dk_at dksX3_go_1 23 rfl rfl)
theorem dX3_go_48 : decode cX3_go 48 = .ok (.istore 6, 2) := dk_54 6 (dk_at dksX3_go_2 0 rfl rfl)
theorem dX3_go_50 : decode cX3_go 50 = .ok (.iload 6, 2) := dk_21 6 (dk_at dksX3_go_2 2 rfl rfl)
theorem dX3_go_52 : decode cX3_go 52 = .ok (.iload 4, 2) := dk_21 4 (dk_at dksX3_go_2 4 rfl rfl)
theorem dX3_go_54 : decode cX3_go 54 = .ok (.if_icmp .ge 112, 3) := dk_162 0 112 (dk_at dksX3_go_2 6 rfl rfl)
theorem dX3_go_57 : decode cX3_go 57 = .ok (.aload_n 0, 1) := dk_42 (dk_at dksX3_go_2 9 rfl rfl)
theorem dX3_go_58 : decode cX3_go 58 = .ok (.getfield 104, 3) := dk_180 0 104 (dk_at dksX3_go_2 10 rfl rfl)
theorem dX3_go_61 : decode cX3_go 61 = .ok (.iload 6, 2) := dk_21 6 (dk_at dksX3_go_2 13 rfl rfl)
theorem dX3_go_63 : decode cX3_go 63 = .ok (.iaload, 1) := dk_46 (dk_at dksX3_go_2 15 rfl rfl)
theorem dX3_go_64 : decode cX3_go 64 = .ok (.istore 7, 2) := dk_54 7 (dk_at dksX3_go_2 16 rfl rfl)
theorem dX3_go_66 : decode cX3_go 66 = .ok (.aload_n 0, 1) := dk_42 (dk_at dksX3_go_2 18 rfl rfl)
theorem dX3_go_67 : decode cX3_go 67 = .ok (.getfield 62, 3) := dk_180 0 62 (dk_at dksX3_go_2 19 rfl rfl)
theorem dX3_go_70 : decode cX3_go 70 = .ok (.iload 7, 2) := dk_21 7 (dk_at dksX3_go_2 22 rfl rfl)
theorem dX3_go_72 : decode cX3_go 72 = .ok (.iconst 1, 1) := dk_4 (dk_at dksX3_go_3 0 rfl rfl)
theorem dX3_go_73 : decode cX3_go 73 = .ok (.bastore, 1) := dk_84 (dk_at dksX3_go_3 1 rfl rfl)
theorem dX3_go_74 : decode cX3_go 74 = .ok (.aload_n 0, 1) := dk_42 (dk_at dksX3_go_3 2 rfl rfl)
theorem dX3_go_75 : decode cX3_go 75 = .ok (.getfield 65, 3) := dk_180 0 65 (dk_at dksX3_go_3 3 rfl rfl)
theorem dX3_go_78 : decode cX3_go 78 = .ok (.iload 7, 2) := dk_21 7 (dk_at dksX3_go_3 6 rfl rfl)
theorem dX3_go_80 : decode cX3_go 80 = .ok (.dup2, 1) := dk_92 (dk_at dksX3_go_3 8 rfl rfl)
theorem dX3_go_81 : decode cX3_go 81 = .ok (.iaload, 1) := dk_46 (dk_at dksX3_go_3 9 rfl rfl)
theorem dX3_go_82 : decode cX3_go 82 = .ok (.iload 5, 2) := dk_21 5 (dk_at dksX3_go_3 10 rfl rfl)
theorem dX3_go_84 : decode cX3_go 84 = .ok (.iload 5, 2) := dk_21 5 (dk_at dksX3_go_3 12 rfl rfl)
theorem dX3_go_86 : decode cX3_go 86 = .ok (.bipush 10, 2) := dk_16 10 (dk_at dksX3_go_3 14 rfl rfl)
theorem dX3_go_88 : decode cX3_go 88 = .ok (.idiv, 1) := dk_108 (dk_at dksX3_go_3 16 rfl rfl)
theorem dX3_go_89 : decode cX3_go 89 = .ok (.isub, 1) := dk_100 (dk_at dksX3_go_3 17 rfl rfl)
theorem dX3_go_90 : decode cX3_go 90 = .ok (.iadd, 1) := dk_96 (dk_at dksX3_go_3 18 rfl rfl)
theorem dX3_go_91 : decode cX3_go 91 = .ok (.iastore, 1) := dk_79 (dk_at dksX3_go_3 19 rfl rfl)
theorem dX3_go_92 : decode cX3_go 92 = .ok (.aload_n 0, 1) := dk_42 (dk_at dksX3_go_3 20 rfl rfl)
theorem dX3_go_93 : decode cX3_go 93 = .ok (.dup, 1) := dk_89 (dk_at dksX3_go_3 21 rfl rfl)
theorem dX3_go_94 : decode cX3_go 94 = .ok (.getfield 429, 3) := dk_180 1 173 (dk_at dksX3_go_4 0 rfl rfl)
theorem dX3_go_97 : decode cX3_go 97 = .ok (.iload 5, 2) := dk_21 5 (dk_at dksX3_go_4 3 rfl rfl)
theorem dX3_go_99 : decode cX3_go 99 = .ok (.bipush 10, 2) := dk_16 10 (dk_at dksX3_go_4 5 rfl rfl)
theorem dX3_go_101 : decode cX3_go 101 = .ok (.idiv, 1) := dk_108 (dk_at dksX3_go_4 7 rfl rfl)
theorem dX3_go_102 : decode cX3_go 102 = .ok (.iadd, 1) := dk_96 (dk_at dksX3_go_4 8 rfl rfl)
theorem dX3_go_103 : decode cX3_go 103 = .ok (.putfield 429, 3) := dk_181 1 173 (dk_at dksX3_go_4 9 rfl rfl)
theorem dX3_go_106 : decode cX3_go 106 = .ok (.aload_n 0, 1) := dk_42 (dk_at dksX3_go_4 12 rfl rfl)
theorem dX3_go_107 : decode cX3_go 107 = .ok (.iload 7, 2) := dk_21 7 (dk_at dksX3_go_4 13 rfl rfl)
theorem dX3_go_109 : decode cX3_go 109 = .ok (.invokevirtual 297, 3) := dk_182 1 41 (dk_at dksX3_go_4 15 rfl rfl)
theorem dX3_go_112 : decode cX3_go 112 = .ok (.istore 8, 2) := dk_54 8 (dk_at dksX3_go_4 18 rfl rfl)
theorem dX3_go_114 : decode cX3_go 114 = .ok (.iload 8, 2) := dk_21 8 (dk_at dksX3_go_4 20 rfl rfl)
theorem dX3_go_116 : decode cX3_go 116 = .ok (.iconst 1, 1) := dk_4 (dk_at dksX3_go_4 22 rfl rfl)
theorem dX3_go_117 : decode cX3_go 117 = .ok (.iadd, 1) := dk_96 (dk_at dksX3_go_4 23 rfl rfl)
theorem dX3_go_118 : decode cX3_go 118 = .ok (.aload_n 0, 1) := dk_42 (dk_at dksX3_go_5 0 rfl rfl)
theorem dX3_go_119 : decode cX3_go 119 = .ok (.getfield 287, 3) := dk_180 1 31 (dk_at dksX3_go_5 1 rfl rfl)
theorem dX3_go_122 : decode cX3_go 122 = .ok (.if_icmp .ge 25, 3) := dk_162 0 25 (dk_at dksX3_go_5 4 rfl rfl)
theorem dX3_go_125 : decode cX3_go 125 = .ok (.aload_n 0, 1) := dk_42 (dk_at dksX3_go_5 7 rfl rfl)
theorem dX3_go_126 : decode cX3_go 126 = .ok (.getfield 71, 3) := dk_180 0 71 (dk_at dksX3_go_5 8 rfl rfl)
theorem dX3_go_129 : decode cX3_go 129 = .ok (.iload 8, 2) := dk_21 8 (dk_at dksX3_go_5 11 rfl rfl)
theorem dX3_go_131 : decode cX3_go 131 = .ok (.aload_n 0, 1) := dk_42 (dk_at dksX3_go_5 13 rfl rfl)
theorem dX3_go_132 : decode cX3_go 132 = .ok (.getfield 71, 3) := dk_180 0 71 (dk_at dksX3_go_5 14 rfl rfl)
theorem dX3_go_135 : decode cX3_go 135 = .ok (.iload 8, 2) := dk_21 8 (dk_at dksX3_go_5 17 rfl rfl)
theorem dX3_go_137 : decode cX3_go 137 = .ok (.iconst 1, 1) := dk_4 (dk_at dksX3_go_5 19 rfl rfl)
theorem dX3_go_138 : decode cX3_go 138 = .ok (.iadd, 1) := dk_96 (dk_at dksX3_go_5 20 rfl rfl)
theorem dX3_go_139 : decode cX3_go 139 = .ok (.iaload, 1) := dk_46 (dk_at dksX3_go_5 21 rfl rfl)
theorem dX3_go_140 : decode cX3_go 140 = .ok (.iastore, 1) := dk_79 (dk_at dksX3_go_5 22 rfl rfl)
theorem dX3_go_141 : decode cX3_go 141 = .ok (.iinc 8 1, 3) := dk_132 8 1 (dk_at dksX3_go_6 0 rfl rfl)
theorem dX3_go_144 : decode cX3_go 144 = .ok (.goto (-30), 3) := dk_167 255 226 (dk_at dksX3_go_6 3 rfl rfl)
theorem dX3_go_147 : decode cX3_go 147 = .ok (.aload_n 0, 1) := dk_42 (dk_at dksX3_go_6 6 rfl rfl)
theorem dX3_go_148 : decode cX3_go 148 = .ok (.getfield 71, 3) := dk_180 0 71 (dk_at dksX3_go_6 7 rfl rfl)
theorem dX3_go_151 : decode cX3_go 151 = .ok (.aload_n 0, 1) := dk_42 (dk_at dksX3_go_6 10 rfl rfl)
theorem dX3_go_152 : decode cX3_go 152 = .ok (.getfield 287, 3) := dk_180 1 31 (dk_at dksX3_go_6 11 rfl rfl)
theorem dX3_go_155 : decode cX3_go 155 = .ok (.iconst 1, 1) := dk_4 (dk_at dksX3_go_6 14 rfl rfl)
theorem dX3_go_156 : decode cX3_go 156 = .ok (.isub, 1) := dk_100 (dk_at dksX3_go_6 15 rfl rfl)
theorem dX3_go_157 : decode cX3_go 157 = .ok (.iload 7, 2) := dk_21 7 (dk_at dksX3_go_6 16 rfl rfl)
theorem dX3_go_159 : decode cX3_go 159 = .ok (.iastore, 1) := dk_79 (dk_at dksX3_go_6 18 rfl rfl)
theorem dX3_go_160 : decode cX3_go 160 = .ok (.iinc 6 1, 3) := dk_132 6 1 (dk_at dksX3_go_6 19 rfl rfl)
theorem dX3_go_163 : decode cX3_go 163 = .ok (.goto (-113), 3) := dk_167 255 143 (dk_at dksX3_go_7 0 rfl rfl)
theorem dX3_go_166 : decode cX3_go 166 = .ok (.iload 4, 2) := dk_21 4 (dk_at dksX3_go_7 3 rfl rfl)
theorem dX3_go_168 : decode cX3_go 168 = .ok (.ireturn, 1) := dk_172 (dk_at dksX3_go_7 5 rfl rfl)
abbrev cX3_person : ByteArray := prog_26_method_73_code
def yX3_person : MethodName := ⟨RX3, "person", "(I)I"⟩
def dkwX3_person_4 : List UInt8 := [180, 1, 176, 4, 100, 172]
abbrev dktX3_person_4 : List UInt8 := dkwX3_person_4 ++ []
def dkwX3_person_3 : List UInt8 := [180, 1, 176, 96, 3, 79, 132, 2, 1, 167, 255, 217, 42, 89, 180, 1, 176, 4, 96, 181, 1, 176, 42]
abbrev dktX3_person_3 : List UInt8 := dkwX3_person_3 ++ dktX3_person_4
def dkwX3_person_2 : List UInt8 := [180, 0, 110, 16, 9, 42, 180, 1, 176, 104, 28, 96, 3, 79, 42, 180, 0, 110, 16, 9, 28, 104, 42]
abbrev dktX3_person_2 : List UInt8 := dkwX3_person_2 ++ dktX3_person_3
def dkwX3_person_1 : List UInt8 := [16, 253, 172, 42, 180, 0, 107, 42, 180, 1, 176, 27, 79, 3, 61, 28, 16, 9, 162, 0, 39, 42]
abbrev dktX3_person_1 : List UInt8 := dkwX3_person_1 ++ dktX3_person_2
def dkwX3_person_0 : List UInt8 := [27, 133, 9, 20, 0, 224, 184, 0, 214, 154, 0, 5, 2, 172, 42, 180, 1, 176, 16, 9, 160, 0, 6]
abbrev dktX3_person_0 : List UInt8 := dkwX3_person_0 ++ dktX3_person_1
theorem dksX3_person_0 : cX3_person.data.toList.drop 0 = dktX3_person_0 := by decide +kernel
theorem dksX3_person_1 : cX3_person.data.toList.drop 23 = dktX3_person_1 := dk_seg dksX3_person_0 23 rfl rfl
theorem dksX3_person_2 : cX3_person.data.toList.drop 45 = dktX3_person_2 := dk_seg dksX3_person_1 22 rfl rfl
theorem dksX3_person_3 : cX3_person.data.toList.drop 68 = dktX3_person_3 := dk_seg dksX3_person_2 23 rfl rfl
theorem dksX3_person_4 : cX3_person.data.toList.drop 91 = dktX3_person_4 := dk_seg dksX3_person_3 23 rfl rfl
theorem dX3_person_0 : decode cX3_person 0 = .ok (.iload_n 1, 1) := dk_27 (dk_at dksX3_person_0 0 rfl rfl)
theorem dX3_person_1 : decode cX3_person 1 = .ok (.i2l, 1) := dk_133 (dk_at dksX3_person_0 1 rfl rfl)
theorem dX3_person_2 : decode cX3_person 2 = .ok (.lconst 0, 1) := dk_9 (dk_at dksX3_person_0 2 rfl rfl)
theorem dX3_person_3 : decode cX3_person 3 = .ok (.ldc2_w 224, 3) := dk_20 0 224 (dk_at dksX3_person_0 3 rfl rfl)
theorem dX3_person_6 : decode cX3_person 6 = .ok (.invokestatic 214, 3) := dk_184 0 214 (dk_at dksX3_person_0 6 rfl rfl)
theorem dX3_person_9 : decode cX3_person 9 = .ok (.ifCond .ne 5, 3) := dk_154 0 5 (dk_at dksX3_person_0 9 rfl rfl)
theorem dX3_person_12 : decode cX3_person 12 = .ok (.iconst (-1), 1) := dk_2 (dk_at dksX3_person_0 12 rfl rfl)
theorem dX3_person_13 : decode cX3_person 13 = .ok (.ireturn, 1) := dk_172 (dk_at dksX3_person_0 13 rfl rfl)
theorem dX3_person_14 : decode cX3_person 14 = .ok (.aload_n 0, 1) := dk_42 (dk_at dksX3_person_0 14 rfl rfl)
theorem dX3_person_15 : decode cX3_person 15 = .ok (.getfield 432, 3) := dk_180 1 176 (dk_at dksX3_person_0 15 rfl rfl)
theorem dX3_person_18 : decode cX3_person 18 = .ok (.bipush 9, 2) := dk_16 9 (dk_at dksX3_person_0 18 rfl rfl)
theorem dX3_person_20 : decode cX3_person 20 = .ok (.if_icmp .ne 6, 3) := dk_160 0 6 (dk_at dksX3_person_0 20 rfl rfl)
theorem dX3_person_23 : decode cX3_person 23 = .ok (.bipush (-3), 2) := dk_16 253 (dk_at dksX3_person_1 0 rfl rfl)
theorem dX3_person_25 : decode cX3_person 25 = .ok (.ireturn, 1) := dk_172 (dk_at dksX3_person_1 2 rfl rfl)
theorem dX3_person_26 : decode cX3_person 26 = .ok (.aload_n 0, 1) := dk_42 (dk_at dksX3_person_1 3 rfl rfl)
theorem dX3_person_27 : decode cX3_person 27 = .ok (.getfield 107, 3) := dk_180 0 107 (dk_at dksX3_person_1 4 rfl rfl)
theorem dX3_person_30 : decode cX3_person 30 = .ok (.aload_n 0, 1) := dk_42 (dk_at dksX3_person_1 7 rfl rfl)
theorem dX3_person_31 : decode cX3_person 31 = .ok (.getfield 432, 3) := dk_180 1 176 (dk_at dksX3_person_1 8 rfl rfl)
theorem dX3_person_34 : decode cX3_person 34 = .ok (.iload_n 1, 1) := dk_27 (dk_at dksX3_person_1 11 rfl rfl)
theorem dX3_person_35 : decode cX3_person 35 = .ok (.iastore, 1) := dk_79 (dk_at dksX3_person_1 12 rfl rfl)
theorem dX3_person_36 : decode cX3_person 36 = .ok (.iconst 0, 1) := dk_3 (dk_at dksX3_person_1 13 rfl rfl)
theorem dX3_person_37 : decode cX3_person 37 = .ok (.istore_n 2, 1) := dk_61 (dk_at dksX3_person_1 14 rfl rfl)
theorem dX3_person_38 : decode cX3_person 38 = .ok (.iload_n 2, 1) := dk_28 (dk_at dksX3_person_1 15 rfl rfl)
theorem dX3_person_39 : decode cX3_person 39 = .ok (.bipush 9, 2) := dk_16 9 (dk_at dksX3_person_1 16 rfl rfl)
theorem dX3_person_41 : decode cX3_person 41 = .ok (.if_icmp .ge 39, 3) := dk_162 0 39 (dk_at dksX3_person_1 18 rfl rfl)
theorem dX3_person_44 : decode cX3_person 44 = .ok (.aload_n 0, 1) := dk_42 (dk_at dksX3_person_1 21 rfl rfl)
theorem dX3_person_45 : decode cX3_person 45 = .ok (.getfield 110, 3) := dk_180 0 110 (dk_at dksX3_person_2 0 rfl rfl)
theorem dX3_person_48 : decode cX3_person 48 = .ok (.bipush 9, 2) := dk_16 9 (dk_at dksX3_person_2 3 rfl rfl)
theorem dX3_person_50 : decode cX3_person 50 = .ok (.aload_n 0, 1) := dk_42 (dk_at dksX3_person_2 5 rfl rfl)
theorem dX3_person_51 : decode cX3_person 51 = .ok (.getfield 432, 3) := dk_180 1 176 (dk_at dksX3_person_2 6 rfl rfl)
theorem dX3_person_54 : decode cX3_person 54 = .ok (.imul, 1) := dk_104 (dk_at dksX3_person_2 9 rfl rfl)
theorem dX3_person_55 : decode cX3_person 55 = .ok (.iload_n 2, 1) := dk_28 (dk_at dksX3_person_2 10 rfl rfl)
theorem dX3_person_56 : decode cX3_person 56 = .ok (.iadd, 1) := dk_96 (dk_at dksX3_person_2 11 rfl rfl)
theorem dX3_person_57 : decode cX3_person 57 = .ok (.iconst 0, 1) := dk_3 (dk_at dksX3_person_2 12 rfl rfl)
theorem dX3_person_58 : decode cX3_person 58 = .ok (.iastore, 1) := dk_79 (dk_at dksX3_person_2 13 rfl rfl)
theorem dX3_person_59 : decode cX3_person 59 = .ok (.aload_n 0, 1) := dk_42 (dk_at dksX3_person_2 14 rfl rfl)
theorem dX3_person_60 : decode cX3_person 60 = .ok (.getfield 110, 3) := dk_180 0 110 (dk_at dksX3_person_2 15 rfl rfl)
theorem dX3_person_63 : decode cX3_person 63 = .ok (.bipush 9, 2) := dk_16 9 (dk_at dksX3_person_2 18 rfl rfl)
theorem dX3_person_65 : decode cX3_person 65 = .ok (.iload_n 2, 1) := dk_28 (dk_at dksX3_person_2 20 rfl rfl)
theorem dX3_person_66 : decode cX3_person 66 = .ok (.imul, 1) := dk_104 (dk_at dksX3_person_2 21 rfl rfl)
theorem dX3_person_67 : decode cX3_person 67 = .ok (.aload_n 0, 1) := dk_42 (dk_at dksX3_person_2 22 rfl rfl)
theorem dX3_person_68 : decode cX3_person 68 = .ok (.getfield 432, 3) := dk_180 1 176 (dk_at dksX3_person_3 0 rfl rfl)
theorem dX3_person_71 : decode cX3_person 71 = .ok (.iadd, 1) := dk_96 (dk_at dksX3_person_3 3 rfl rfl)
theorem dX3_person_72 : decode cX3_person 72 = .ok (.iconst 0, 1) := dk_3 (dk_at dksX3_person_3 4 rfl rfl)
theorem dX3_person_73 : decode cX3_person 73 = .ok (.iastore, 1) := dk_79 (dk_at dksX3_person_3 5 rfl rfl)
theorem dX3_person_74 : decode cX3_person 74 = .ok (.iinc 2 1, 3) := dk_132 2 1 (dk_at dksX3_person_3 6 rfl rfl)
theorem dX3_person_77 : decode cX3_person 77 = .ok (.goto (-39), 3) := dk_167 255 217 (dk_at dksX3_person_3 9 rfl rfl)
theorem dX3_person_80 : decode cX3_person 80 = .ok (.aload_n 0, 1) := dk_42 (dk_at dksX3_person_3 12 rfl rfl)
theorem dX3_person_81 : decode cX3_person 81 = .ok (.dup, 1) := dk_89 (dk_at dksX3_person_3 13 rfl rfl)
theorem dX3_person_82 : decode cX3_person 82 = .ok (.getfield 432, 3) := dk_180 1 176 (dk_at dksX3_person_3 14 rfl rfl)
theorem dX3_person_85 : decode cX3_person 85 = .ok (.iconst 1, 1) := dk_4 (dk_at dksX3_person_3 17 rfl rfl)
theorem dX3_person_86 : decode cX3_person 86 = .ok (.iadd, 1) := dk_96 (dk_at dksX3_person_3 18 rfl rfl)
theorem dX3_person_87 : decode cX3_person 87 = .ok (.putfield 432, 3) := dk_181 1 176 (dk_at dksX3_person_3 19 rfl rfl)
theorem dX3_person_90 : decode cX3_person 90 = .ok (.aload_n 0, 1) := dk_42 (dk_at dksX3_person_3 22 rfl rfl)
theorem dX3_person_91 : decode cX3_person 91 = .ok (.getfield 432, 3) := dk_180 1 176 (dk_at dksX3_person_4 0 rfl rfl)
theorem dX3_person_94 : decode cX3_person 94 = .ok (.iconst 1, 1) := dk_4 (dk_at dksX3_person_4 3 rfl rfl)
theorem dX3_person_95 : decode cX3_person 95 = .ok (.isub, 1) := dk_100 (dk_at dksX3_person_4 4 rfl rfl)
theorem dX3_person_96 : decode cX3_person 96 = .ok (.ireturn, 1) := dk_172 (dk_at dksX3_person_4 5 rfl rfl)
abbrev cX3_wish : ByteArray := prog_26_method_74_code
def yX3_wish : MethodName := ⟨RX3, "wish", "(III)I"⟩
def dkwX3_wish_3 : List UInt8 := [16, 9, 27, 104, 28, 96, 29, 79, 21, 4, 172]
abbrev dktX3_wish_3 : List UInt8 := dkwX3_wish_3 ++ []
def dkwX3_wish_2 : List UInt8 := [154, 0, 6, 16, 156, 172, 42, 180, 0, 110, 16, 9, 27, 104, 28, 96, 46, 54, 4, 42, 180, 0, 110]
abbrev dktX3_wish_2 : List UInt8 := dkwX3_wish_2 ++ dktX3_wish_3
def dkwX3_wish_1 : List UInt8 := [100, 133, 184, 0, 214, 153, 0, 22, 27, 28, 159, 0, 17, 29, 133, 20, 1, 179, 20, 0, 224, 184, 0, 214]
abbrev dktX3_wish_1 : List UInt8 := dkwX3_wish_1 ++ dktX3_wish_2
def dkwX3_wish_0 : List UInt8 := [27, 133, 9, 42, 180, 1, 176, 4, 100, 133, 184, 0, 214, 153, 0, 38, 28, 133, 9, 42, 180, 1, 176, 4]
abbrev dktX3_wish_0 : List UInt8 := dkwX3_wish_0 ++ dktX3_wish_1
theorem dksX3_wish_0 : cX3_wish.data.toList.drop 0 = dktX3_wish_0 := by decide +kernel
theorem dksX3_wish_1 : cX3_wish.data.toList.drop 24 = dktX3_wish_1 := dk_seg dksX3_wish_0 24 rfl rfl
theorem dksX3_wish_2 : cX3_wish.data.toList.drop 48 = dktX3_wish_2 := dk_seg dksX3_wish_1 24 rfl rfl
theorem dksX3_wish_3 : cX3_wish.data.toList.drop 71 = dktX3_wish_3 := dk_seg dksX3_wish_2 23 rfl rfl
theorem dX3_wish_0 : decode cX3_wish 0 = .ok (.iload_n 1, 1) := dk_27 (dk_at dksX3_wish_0 0 rfl rfl)
theorem dX3_wish_1 : decode cX3_wish 1 = .ok (.i2l, 1) := dk_133 (dk_at dksX3_wish_0 1 rfl rfl)
theorem dX3_wish_2 : decode cX3_wish 2 = .ok (.lconst 0, 1) := dk_9 (dk_at dksX3_wish_0 2 rfl rfl)
theorem dX3_wish_3 : decode cX3_wish 3 = .ok (.aload_n 0, 1) := dk_42 (dk_at dksX3_wish_0 3 rfl rfl)
theorem dX3_wish_4 : decode cX3_wish 4 = .ok (.getfield 432, 3) := dk_180 1 176 (dk_at dksX3_wish_0 4 rfl rfl)
theorem dX3_wish_7 : decode cX3_wish 7 = .ok (.iconst 1, 1) := dk_4 (dk_at dksX3_wish_0 7 rfl rfl)
theorem dX3_wish_8 : decode cX3_wish 8 = .ok (.isub, 1) := dk_100 (dk_at dksX3_wish_0 8 rfl rfl)
theorem dX3_wish_9 : decode cX3_wish 9 = .ok (.i2l, 1) := dk_133 (dk_at dksX3_wish_0 9 rfl rfl)
theorem dX3_wish_10 : decode cX3_wish 10 = .ok (.invokestatic 214, 3) := dk_184 0 214 (dk_at dksX3_wish_0 10 rfl rfl)
theorem dX3_wish_13 : decode cX3_wish 13 = .ok (.ifCond .eq 38, 3) := dk_153 0 38 (dk_at dksX3_wish_0 13 rfl rfl)
theorem dX3_wish_16 : decode cX3_wish 16 = .ok (.iload_n 2, 1) := dk_28 (dk_at dksX3_wish_0 16 rfl rfl)
theorem dX3_wish_17 : decode cX3_wish 17 = .ok (.i2l, 1) := dk_133 (dk_at dksX3_wish_0 17 rfl rfl)
theorem dX3_wish_18 : decode cX3_wish 18 = .ok (.lconst 0, 1) := dk_9 (dk_at dksX3_wish_0 18 rfl rfl)
theorem dX3_wish_19 : decode cX3_wish 19 = .ok (.aload_n 0, 1) := dk_42 (dk_at dksX3_wish_0 19 rfl rfl)
theorem dX3_wish_20 : decode cX3_wish 20 = .ok (.getfield 432, 3) := dk_180 1 176 (dk_at dksX3_wish_0 20 rfl rfl)
theorem dX3_wish_23 : decode cX3_wish 23 = .ok (.iconst 1, 1) := dk_4 (dk_at dksX3_wish_0 23 rfl rfl)
theorem dX3_wish_24 : decode cX3_wish 24 = .ok (.isub, 1) := dk_100 (dk_at dksX3_wish_1 0 rfl rfl)
theorem dX3_wish_25 : decode cX3_wish 25 = .ok (.i2l, 1) := dk_133 (dk_at dksX3_wish_1 1 rfl rfl)
theorem dX3_wish_26 : decode cX3_wish 26 = .ok (.invokestatic 214, 3) := dk_184 0 214 (dk_at dksX3_wish_1 2 rfl rfl)
theorem dX3_wish_29 : decode cX3_wish 29 = .ok (.ifCond .eq 22, 3) := dk_153 0 22 (dk_at dksX3_wish_1 5 rfl rfl)
theorem dX3_wish_32 : decode cX3_wish 32 = .ok (.iload_n 1, 1) := dk_27 (dk_at dksX3_wish_1 8 rfl rfl)
theorem dX3_wish_33 : decode cX3_wish 33 = .ok (.iload_n 2, 1) := dk_28 (dk_at dksX3_wish_1 9 rfl rfl)
theorem dX3_wish_34 : decode cX3_wish 34 = .ok (.if_icmp .eq 17, 3) := dk_159 0 17 (dk_at dksX3_wish_1 10 rfl rfl)
theorem dX3_wish_37 : decode cX3_wish 37 = .ok (.iload_n 3, 1) := dk_29 (dk_at dksX3_wish_1 13 rfl rfl)
theorem dX3_wish_38 : decode cX3_wish 38 = .ok (.i2l, 1) := dk_133 (dk_at dksX3_wish_1 14 rfl rfl)
theorem dX3_wish_39 : decode cX3_wish 39 = .ok (.ldc2_w 435, 3) := dk_20 1 179 (dk_at dksX3_wish_1 15 rfl rfl)
theorem dX3_wish_42 : decode cX3_wish 42 = .ok (.ldc2_w 224, 3) := dk_20 0 224 (dk_at dksX3_wish_1 18 rfl rfl)
theorem dX3_wish_45 : decode cX3_wish 45 = .ok (.invokestatic 214, 3) := dk_184 0 214 (dk_at dksX3_wish_1 21 rfl rfl)
theorem dX3_wish_48 : decode cX3_wish 48 = .ok (.ifCond .ne 6, 3) := dk_154 0 6 (dk_at dksX3_wish_2 0 rfl rfl)
theorem dX3_wish_51 : decode cX3_wish 51 = .ok (.bipush (-100), 2) := dk_16 156 (dk_at dksX3_wish_2 3 rfl rfl)
theorem dX3_wish_53 : decode cX3_wish 53 = .ok (.ireturn, 1) := dk_172 (dk_at dksX3_wish_2 5 rfl rfl)
theorem dX3_wish_54 : decode cX3_wish 54 = .ok (.aload_n 0, 1) := dk_42 (dk_at dksX3_wish_2 6 rfl rfl)
theorem dX3_wish_55 : decode cX3_wish 55 = .ok (.getfield 110, 3) := dk_180 0 110 (dk_at dksX3_wish_2 7 rfl rfl)
theorem dX3_wish_58 : decode cX3_wish 58 = .ok (.bipush 9, 2) := dk_16 9 (dk_at dksX3_wish_2 10 rfl rfl)
theorem dX3_wish_60 : decode cX3_wish 60 = .ok (.iload_n 1, 1) := dk_27 (dk_at dksX3_wish_2 12 rfl rfl)
theorem dX3_wish_61 : decode cX3_wish 61 = .ok (.imul, 1) := dk_104 (dk_at dksX3_wish_2 13 rfl rfl)
theorem dX3_wish_62 : decode cX3_wish 62 = .ok (.iload_n 2, 1) := dk_28 (dk_at dksX3_wish_2 14 rfl rfl)
theorem dX3_wish_63 : decode cX3_wish 63 = .ok (.iadd, 1) := dk_96 (dk_at dksX3_wish_2 15 rfl rfl)
theorem dX3_wish_64 : decode cX3_wish 64 = .ok (.iaload, 1) := dk_46 (dk_at dksX3_wish_2 16 rfl rfl)
theorem dX3_wish_65 : decode cX3_wish 65 = .ok (.istore 4, 2) := dk_54 4 (dk_at dksX3_wish_2 17 rfl rfl)
theorem dX3_wish_67 : decode cX3_wish 67 = .ok (.aload_n 0, 1) := dk_42 (dk_at dksX3_wish_2 19 rfl rfl)
theorem dX3_wish_68 : decode cX3_wish 68 = .ok (.getfield 110, 3) := dk_180 0 110 (dk_at dksX3_wish_2 20 rfl rfl)
theorem dX3_wish_71 : decode cX3_wish 71 = .ok (.bipush 9, 2) := dk_16 9 (dk_at dksX3_wish_3 0 rfl rfl)
theorem dX3_wish_73 : decode cX3_wish 73 = .ok (.iload_n 1, 1) := dk_27 (dk_at dksX3_wish_3 2 rfl rfl)
theorem dX3_wish_74 : decode cX3_wish 74 = .ok (.imul, 1) := dk_104 (dk_at dksX3_wish_3 3 rfl rfl)
theorem dX3_wish_75 : decode cX3_wish 75 = .ok (.iload_n 2, 1) := dk_28 (dk_at dksX3_wish_3 4 rfl rfl)
theorem dX3_wish_76 : decode cX3_wish 76 = .ok (.iadd, 1) := dk_96 (dk_at dksX3_wish_3 5 rfl rfl)
theorem dX3_wish_77 : decode cX3_wish 77 = .ok (.iload_n 3, 1) := dk_29 (dk_at dksX3_wish_3 6 rfl rfl)
theorem dX3_wish_78 : decode cX3_wish 78 = .ok (.iastore, 1) := dk_79 (dk_at dksX3_wish_3 7 rfl rfl)
theorem dX3_wish_79 : decode cX3_wish 79 = .ok (.iload 4, 2) := dk_21 4 (dk_at dksX3_wish_3 8 rfl rfl)
theorem dX3_wish_81 : decode cX3_wish 81 = .ok (.ireturn, 1) := dk_172 (dk_at dksX3_wish_3 10 rfl rfl)
abbrev cX3_roping : ByteArray := prog_26_method_78_code
def yX3_roping : MethodName := ⟨RX3, "roping", "(II)I"⟩
def dkwX3_roping_7 : List UInt8 := [21, 4, 167, 0, 5, 21, 5, 172]
abbrev dktX3_roping_7 : List UInt8 := dkwX3_roping_7 ++ []
def dkwX3_roping_6 : List UInt8 := [54, 6, 167, 255, 198, 28, 154, 0, 12, 42, 180, 0, 113, 29, 46, 167, 0, 15, 28, 4, 160, 0, 8]
abbrev dktX3_roping_6 : List UInt8 := dkwX3_roping_6 ++ dktX3_roping_7
def dkwX3_roping_5 : List UInt8 := [180, 0, 116, 21, 6, 46, 167, 0, 5, 21, 5, 54, 5, 21, 6, 42, 180, 0, 116, 21, 6, 46, 100]
abbrev dktX3_roping_5 : List UInt8 := dkwX3_roping_5 ++ dktX3_roping_6
def dkwX3_roping_4 : List UInt8 := [161, 0, 31, 42, 180, 0, 116, 21, 6, 46, 28, 16, 10, 100, 122, 4, 126, 4, 160, 0, 13, 42]
abbrev dktX3_roping_4 : List UInt8 := dkwX3_roping_4 ++ dktX3_roping_5
def dkwX3_roping_3 : List UInt8 := [17, 252, 20, 172, 3, 54, 4, 3, 54, 5, 29, 54, 6, 21, 6, 153, 0, 59, 132, 4, 1, 28, 16, 10]
abbrev dktX3_roping_3 : List UInt8 := dkwX3_roping_3 ++ dktX3_roping_4
def dkwX3_roping_2 : List UInt8 := [182, 1, 190, 4, 42, 180, 1, 176, 120, 4, 100, 62, 42, 180, 0, 113, 29, 46, 19, 1, 184, 160, 0, 7]
abbrev dktX3_roping_2 : List UInt8 := dkwX3_roping_2 ++ dktX3_roping_3
def dkwX3_roping_1 : List UInt8 := [20, 0, 248, 16, 9, 42, 180, 1, 176, 96, 133, 184, 0, 214, 154, 0, 7, 17, 252, 24, 172, 42, 27]
abbrev dktX3_roping_1 : List UInt8 := dkwX3_roping_1 ++ dktX3_roping_2
def dkwX3_roping_0 : List UInt8 := [27, 133, 9, 20, 1, 188, 184, 0, 214, 153, 0, 32, 28, 133, 9, 10, 184, 0, 214, 154, 0, 26, 28, 133]
abbrev dktX3_roping_0 : List UInt8 := dkwX3_roping_0 ++ dktX3_roping_1
theorem dksX3_roping_0 : cX3_roping.data.toList.drop 0 = dktX3_roping_0 := by decide +kernel
theorem dksX3_roping_1 : cX3_roping.data.toList.drop 24 = dktX3_roping_1 := dk_seg dksX3_roping_0 24 rfl rfl
theorem dksX3_roping_2 : cX3_roping.data.toList.drop 47 = dktX3_roping_2 := dk_seg dksX3_roping_1 23 rfl rfl
theorem dksX3_roping_3 : cX3_roping.data.toList.drop 71 = dktX3_roping_3 := dk_seg dksX3_roping_2 24 rfl rfl
theorem dksX3_roping_4 : cX3_roping.data.toList.drop 95 = dktX3_roping_4 := dk_seg dksX3_roping_3 24 rfl rfl
theorem dksX3_roping_5 : cX3_roping.data.toList.drop 117 = dktX3_roping_5 := dk_seg dksX3_roping_4 22 rfl rfl
theorem dksX3_roping_6 : cX3_roping.data.toList.drop 140 = dktX3_roping_6 := dk_seg dksX3_roping_5 23 rfl rfl
theorem dksX3_roping_7 : cX3_roping.data.toList.drop 163 = dktX3_roping_7 := dk_seg dksX3_roping_6 23 rfl rfl
theorem dX3_roping_0 : decode cX3_roping 0 = .ok (.iload_n 1, 1) := dk_27 (dk_at dksX3_roping_0 0 rfl rfl)
theorem dX3_roping_1 : decode cX3_roping 1 = .ok (.i2l, 1) := dk_133 (dk_at dksX3_roping_0 1 rfl rfl)
theorem dX3_roping_2 : decode cX3_roping 2 = .ok (.lconst 0, 1) := dk_9 (dk_at dksX3_roping_0 2 rfl rfl)
theorem dX3_roping_3 : decode cX3_roping 3 = .ok (.ldc2_w 444, 3) := dk_20 1 188 (dk_at dksX3_roping_0 3 rfl rfl)
theorem dX3_roping_6 : decode cX3_roping 6 = .ok (.invokestatic 214, 3) := dk_184 0 214 (dk_at dksX3_roping_0 6 rfl rfl)
theorem dX3_roping_9 : decode cX3_roping 9 = .ok (.ifCond .eq 32, 3) := dk_153 0 32 (dk_at dksX3_roping_0 9 rfl rfl)
theorem dX3_roping_12 : decode cX3_roping 12 = .ok (.iload_n 2, 1) := dk_28 (dk_at dksX3_roping_0 12 rfl rfl)
theorem dX3_roping_13 : decode cX3_roping 13 = .ok (.i2l, 1) := dk_133 (dk_at dksX3_roping_0 13 rfl rfl)
theorem dX3_roping_14 : decode cX3_roping 14 = .ok (.lconst 0, 1) := dk_9 (dk_at dksX3_roping_0 14 rfl rfl)
theorem dX3_roping_15 : decode cX3_roping 15 = .ok (.lconst 1, 1) := dk_10 (dk_at dksX3_roping_0 15 rfl rfl)
theorem dX3_roping_16 : decode cX3_roping 16 = .ok (.invokestatic 214, 3) := dk_184 0 214 (dk_at dksX3_roping_0 16 rfl rfl)
theorem dX3_roping_19 : decode cX3_roping 19 = .ok (.ifCond .ne 26, 3) := dk_154 0 26 (dk_at dksX3_roping_0 19 rfl rfl)
theorem dX3_roping_22 : decode cX3_roping 22 = .ok (.iload_n 2, 1) := dk_28 (dk_at dksX3_roping_0 22 rfl rfl)
theorem dX3_roping_23 : decode cX3_roping 23 = .ok (.i2l, 1) := dk_133 (dk_at dksX3_roping_0 23 rfl rfl)
theorem dX3_roping_24 : decode cX3_roping 24 = .ok (.ldc2_w 248, 3) := dk_20 0 248 (dk_at dksX3_roping_1 0 rfl rfl)
theorem dX3_roping_27 : decode cX3_roping 27 = .ok (.bipush 9, 2) := dk_16 9 (dk_at dksX3_roping_1 3 rfl rfl)
theorem dX3_roping_29 : decode cX3_roping 29 = .ok (.aload_n 0, 1) := dk_42 (dk_at dksX3_roping_1 5 rfl rfl)
theorem dX3_roping_30 : decode cX3_roping 30 = .ok (.getfield 432, 3) := dk_180 1 176 (dk_at dksX3_roping_1 6 rfl rfl)
theorem dX3_roping_33 : decode cX3_roping 33 = .ok (.iadd, 1) := dk_96 (dk_at dksX3_roping_1 9 rfl rfl)
theorem dX3_roping_34 : decode cX3_roping 34 = .ok (.i2l, 1) := dk_133 (dk_at dksX3_roping_1 10 rfl rfl)
theorem dX3_roping_35 : decode cX3_roping 35 = .ok (.invokestatic 214, 3) := dk_184 0 214 (dk_at dksX3_roping_1 11 rfl rfl)
theorem dX3_roping_38 : decode cX3_roping 38 = .ok (.ifCond .ne 7, 3) := dk_154 0 7 (dk_at dksX3_roping_1 14 rfl rfl)
theorem dX3_roping_41 : decode cX3_roping 41 = .ok (.sipush (-1000), 3) := dk_17 252 24 (dk_at dksX3_roping_1 17 rfl rfl)
theorem dX3_roping_44 : decode cX3_roping 44 = .ok (.ireturn, 1) := dk_172 (dk_at dksX3_roping_1 20 rfl rfl)
theorem dX3_roping_45 : decode cX3_roping 45 = .ok (.aload_n 0, 1) := dk_42 (dk_at dksX3_roping_1 21 rfl rfl)
theorem dX3_roping_46 : decode cX3_roping 46 = .ok (.iload_n 1, 1) := dk_27 (dk_at dksX3_roping_1 22 rfl rfl)
theorem dX3_roping_47 : decode cX3_roping 47 = .ok (.invokevirtual 446, 3) := dk_182 1 190 (dk_at dksX3_roping_2 0 rfl rfl)
theorem dX3_roping_50 : decode cX3_roping 50 = .ok (.iconst 1, 1) := dk_4 (dk_at dksX3_roping_2 3 rfl rfl)
theorem dX3_roping_51 : decode cX3_roping 51 = .ok (.aload_n 0, 1) := dk_42 (dk_at dksX3_roping_2 4 rfl rfl)
theorem dX3_roping_52 : decode cX3_roping 52 = .ok (.getfield 432, 3) := dk_180 1 176 (dk_at dksX3_roping_2 5 rfl rfl)
theorem dX3_roping_55 : decode cX3_roping 55 = .ok (.ishl, 1) := dk_120 (dk_at dksX3_roping_2 8 rfl rfl)
theorem dX3_roping_56 : decode cX3_roping 56 = .ok (.iconst 1, 1) := dk_4 (dk_at dksX3_roping_2 9 rfl rfl)
theorem dX3_roping_57 : decode cX3_roping 57 = .ok (.isub, 1) := dk_100 (dk_at dksX3_roping_2 10 rfl rfl)
theorem dX3_roping_58 : decode cX3_roping 58 = .ok (.istore_n 3, 1) := dk_62 (dk_at dksX3_roping_2 11 rfl rfl)
theorem dX3_roping_59 : decode cX3_roping 59 = .ok (.aload_n 0, 1) := dk_42 (dk_at dksX3_roping_2 12 rfl rfl)
theorem dX3_roping_60 : decode cX3_roping 60 = .ok (.getfield 113, 3) := dk_180 0 113 (dk_at dksX3_roping_2 13 rfl rfl)
theorem dX3_roping_63 : decode cX3_roping 63 = .ok (.iload_n 3, 1) := dk_29 (dk_at dksX3_roping_2 16 rfl rfl)
theorem dX3_roping_64 : decode cX3_roping 64 = .ok (.iaload, 1) := dk_46 (dk_at dksX3_roping_2 17 rfl rfl)
theorem dX3_roping_65 : decode cX3_roping 65 = .ok (.ldc_w 440, 3) := dk_19 1 184 (dk_at dksX3_roping_2 18 rfl rfl)
theorem dX3_roping_68 : decode cX3_roping 68 = .ok (.if_icmp .ne 7, 3) := dk_160 0 7 (dk_at dksX3_roping_2 21 rfl rfl)
theorem dX3_roping_71 : decode cX3_roping 71 = .ok (.sipush (-1004), 3) := dk_17 252 20 (dk_at dksX3_roping_3 0 rfl rfl)
theorem dX3_roping_74 : decode cX3_roping 74 = .ok (.ireturn, 1) := dk_172 (dk_at dksX3_roping_3 3 rfl rfl)
theorem dX3_roping_75 : decode cX3_roping 75 = .ok (.iconst 0, 1) := dk_3 (dk_at dksX3_roping_3 4 rfl rfl)
theorem dX3_roping_76 : decode cX3_roping 76 = .ok (.istore 4, 2) := dk_54 4 (dk_at dksX3_roping_3 5 rfl rfl)
theorem dX3_roping_78 : decode cX3_roping 78 = .ok (.iconst 0, 1) := dk_3 (dk_at dksX3_roping_3 7 rfl rfl)
theorem dX3_roping_79 : decode cX3_roping 79 = .ok (.istore 5, 2) := dk_54 5 (dk_at dksX3_roping_3 8 rfl rfl)
theorem dX3_roping_81 : decode cX3_roping 81 = .ok (.iload_n 3, 1) := dk_29 (dk_at dksX3_roping_3 10 rfl rfl)
theorem dX3_roping_82 : decode cX3_roping 82 = .ok (.istore 6, 2) := dk_54 6 (dk_at dksX3_roping_3 11 rfl rfl)
theorem dX3_roping_84 : decode cX3_roping 84 = .ok (.iload 6, 2) := dk_21 6 (dk_at dksX3_roping_3 13 rfl rfl)
theorem dX3_roping_86 : decode cX3_roping 86 = .ok (.ifCond .eq 59, 3) := dk_153 0 59 (dk_at dksX3_roping_3 15 rfl rfl)
theorem dX3_roping_89 : decode cX3_roping 89 = .ok (.iinc 4 1, 3) := dk_132 4 1 (dk_at dksX3_roping_3 18 rfl rfl)
theorem dX3_roping_92 : decode cX3_roping 92 = .ok (.iload_n 2, 1) := dk_28 (dk_at dksX3_roping_3 21 rfl rfl)
theorem dX3_roping_93 : decode cX3_roping 93 = .ok (.bipush 10, 2) := dk_16 10 (dk_at dksX3_roping_3 22 rfl rfl)
theorem dX3_roping_95 : decode cX3_roping 95 = .ok (.if_icmp .lt 31, 3) := dk_161 0 31 (dk_at dksX3_roping_4 0 rfl rfl)
theorem dX3_roping_98 : decode cX3_roping 98 = .ok (.aload_n 0, 1) := dk_42 (dk_at dksX3_roping_4 3 rfl rfl)
theorem dX3_roping_99 : decode cX3_roping 99 = .ok (.getfield 116, 3) := dk_180 0 116 (dk_at dksX3_roping_4 4 rfl rfl)
theorem dX3_roping_102 : decode cX3_roping 102 = .ok (.iload 6, 2) := dk_21 6 (dk_at dksX3_roping_4 7 rfl rfl)
theorem dX3_roping_104 : decode cX3_roping 104 = .ok (.iaload, 1) := dk_46 (dk_at dksX3_roping_4 9 rfl rfl)
theorem dX3_roping_105 : decode cX3_roping 105 = .ok (.iload_n 2, 1) := dk_28 (dk_at dksX3_roping_4 10 rfl rfl)
theorem dX3_roping_106 : decode cX3_roping 106 = .ok (.bipush 10, 2) := dk_16 10 (dk_at dksX3_roping_4 11 rfl rfl)
theorem dX3_roping_108 : decode cX3_roping 108 = .ok (.isub, 1) := dk_100 (dk_at dksX3_roping_4 13 rfl rfl)
theorem dX3_roping_109 : decode cX3_roping 109 = .ok (.ishr, 1) := dk_122 (dk_at dksX3_roping_4 14 rfl rfl)
theorem dX3_roping_110 : decode cX3_roping 110 = .ok (.iconst 1, 1) := dk_4 (dk_at dksX3_roping_4 15 rfl rfl)
theorem dX3_roping_111 : decode cX3_roping 111 = .ok (.iand, 1) := dk_126 (dk_at dksX3_roping_4 16 rfl rfl)
theorem dX3_roping_112 : decode cX3_roping 112 = .ok (.iconst 1, 1) := dk_4 (dk_at dksX3_roping_4 17 rfl rfl)
theorem dX3_roping_113 : decode cX3_roping 113 = .ok (.if_icmp .ne 13, 3) := dk_160 0 13 (dk_at dksX3_roping_4 18 rfl rfl)
theorem dX3_roping_116 : decode cX3_roping 116 = .ok (.aload_n 0, 1) := dk_42 (dk_at dksX3_roping_4 21 rfl rfl)
theorem dX3_roping_117 : decode cX3_roping 117 = .ok (.getfield 116, 3) := dk_180 0 116 (dk_at dksX3_roping_5 0 rfl rfl)
theorem dX3_roping_120 : decode cX3_roping 120 = .ok (.iload 6, 2) := dk_21 6 (dk_at dksX3_roping_5 3 rfl rfl)
theorem dX3_roping_122 : decode cX3_roping 122 = .ok (.iaload, 1) := dk_46 (dk_at dksX3_roping_5 5 rfl rfl)
theorem dX3_roping_123 : decode cX3_roping 123 = .ok (.goto 5, 3) := dk_167 0 5 (dk_at dksX3_roping_5 6 rfl rfl)
theorem dX3_roping_126 : decode cX3_roping 126 = .ok (.iload 5, 2) := dk_21 5 (dk_at dksX3_roping_5 9 rfl rfl)
theorem dX3_roping_128 : decode cX3_roping 128 = .ok (.istore 5, 2) := dk_54 5 (dk_at dksX3_roping_5 11 rfl rfl)
theorem dX3_roping_130 : decode cX3_roping 130 = .ok (.iload 6, 2) := dk_21 6 (dk_at dksX3_roping_5 13 rfl rfl)
theorem dX3_roping_132 : decode cX3_roping 132 = .ok (.aload_n 0, 1) := dk_42 (dk_at dksX3_roping_5 15 rfl rfl)
theorem dX3_roping_133 : decode cX3_roping 133 = .ok (.getfield 116, 3) := dk_180 0 116 (dk_at dksX3_roping_5 16 rfl rfl)
theorem dX3_roping_136 : decode cX3_roping 136 = .ok (.iload 6, 2) := dk_21 6 (dk_at dksX3_roping_5 19 rfl rfl)
theorem dX3_roping_138 : decode cX3_roping 138 = .ok (.iaload, 1) := dk_46 (dk_at dksX3_roping_5 21 rfl rfl)
theorem dX3_roping_139 : decode cX3_roping 139 = .ok (.isub, 1) := dk_100 (dk_at dksX3_roping_5 22 rfl rfl)
theorem dX3_roping_140 : decode cX3_roping 140 = .ok (.istore 6, 2) := dk_54 6 (dk_at dksX3_roping_6 0 rfl rfl)
theorem dX3_roping_142 : decode cX3_roping 142 = .ok (.goto (-58), 3) := dk_167 255 198 (dk_at dksX3_roping_6 2 rfl rfl)
theorem dX3_roping_145 : decode cX3_roping 145 = .ok (.iload_n 2, 1) := dk_28 (dk_at dksX3_roping_6 5 rfl rfl)
theorem dX3_roping_146 : decode cX3_roping 146 = .ok (.ifCond .ne 12, 3) := dk_154 0 12 (dk_at dksX3_roping_6 6 rfl rfl)
theorem dX3_roping_149 : decode cX3_roping 149 = .ok (.aload_n 0, 1) := dk_42 (dk_at dksX3_roping_6 9 rfl rfl)
theorem dX3_roping_150 : decode cX3_roping 150 = .ok (.getfield 113, 3) := dk_180 0 113 (dk_at dksX3_roping_6 10 rfl rfl)
theorem dX3_roping_153 : decode cX3_roping 153 = .ok (.iload_n 3, 1) := dk_29 (dk_at dksX3_roping_6 13 rfl rfl)
theorem dX3_roping_154 : decode cX3_roping 154 = .ok (.iaload, 1) := dk_46 (dk_at dksX3_roping_6 14 rfl rfl)
theorem dX3_roping_155 : decode cX3_roping 155 = .ok (.goto 15, 3) := dk_167 0 15 (dk_at dksX3_roping_6 15 rfl rfl)
theorem dX3_roping_158 : decode cX3_roping 158 = .ok (.iload_n 2, 1) := dk_28 (dk_at dksX3_roping_6 18 rfl rfl)
theorem dX3_roping_159 : decode cX3_roping 159 = .ok (.iconst 1, 1) := dk_4 (dk_at dksX3_roping_6 19 rfl rfl)
theorem dX3_roping_160 : decode cX3_roping 160 = .ok (.if_icmp .ne 8, 3) := dk_160 0 8 (dk_at dksX3_roping_6 20 rfl rfl)
theorem dX3_roping_163 : decode cX3_roping 163 = .ok (.iload 4, 2) := dk_21 4 (dk_at dksX3_roping_7 0 rfl rfl)
theorem dX3_roping_165 : decode cX3_roping 165 = .ok (.goto 5, 3) := dk_167 0 5 (dk_at dksX3_roping_7 2 rfl rfl)
theorem dX3_roping_168 : decode cX3_roping 168 = .ok (.iload 5, 2) := dk_21 5 (dk_at dksX3_roping_7 5 rfl rfl)
theorem dX3_roping_170 : decode cX3_roping 170 = .ok (.ireturn, 1) := dk_172 (dk_at dksX3_roping_7 7 rfl rfl)
abbrev cX3_findRoping : ByteArray := prog_26_method_77_code
def yX3_findRoping : MethodName := ⟨RX3, "findRoping", "(I)V"⟩
def dkwX3_findRoping_5 : List UInt8 := [180, 0, 116, 28, 21, 4, 79, 132, 4, 1, 167, 255, 162, 132, 2, 1, 167, 255, 129, 177]
abbrev dktX3_findRoping_5 : List UInt8 := dkwX3_findRoping_5 ++ []
def dkwX3_findRoping_4 : List UInt8 := [21, 6, 96, 42, 180, 0, 113, 28, 46, 164, 0, 22, 42, 180, 0, 113, 28, 21, 5, 21, 6, 96, 79, 42]
abbrev dktX3_findRoping_4 : List UInt8 := dkwX3_findRoping_4 ++ dktX3_findRoping_5
def dkwX3_findRoping_3 : List UInt8 := [21, 4, 100, 46, 54, 6, 21, 5, 19, 1, 184, 159, 0, 44, 21, 6, 19, 1, 184, 159, 0, 36, 21, 5]
abbrev dktX3_findRoping_3 : List UInt8 := dkwX3_findRoping_3 ++ dktX3_findRoping_4
def dkwX3_findRoping_2 : List UInt8 := [154, 0, 79, 21, 4, 29, 126, 153, 0, 72, 42, 21, 4, 27, 182, 1, 185, 54, 5, 42, 180, 0, 113, 28]
abbrev dktX3_findRoping_2 : List UInt8 := dkwX3_findRoping_2 ++ dktX3_findRoping_3
def dkwX3_findRoping_1 : List UInt8 := [19, 1, 184, 79, 28, 28, 116, 126, 62, 4, 54, 4, 21, 4, 28, 163, 0, 94, 21, 4, 28, 2, 130, 126]
abbrev dktX3_findRoping_1 : List UInt8 := dkwX3_findRoping_1 ++ dktX3_findRoping_2
def dkwX3_findRoping_0 : List UInt8 := [42, 180, 0, 113, 3, 3, 79, 4, 61, 28, 4, 42, 180, 1, 176, 120, 162, 0, 123, 42, 180, 0, 113, 28]
abbrev dktX3_findRoping_0 : List UInt8 := dkwX3_findRoping_0 ++ dktX3_findRoping_1
theorem dksX3_findRoping_0 : cX3_findRoping.data.toList.drop 0 = dktX3_findRoping_0 := by decide +kernel
theorem dksX3_findRoping_1 : cX3_findRoping.data.toList.drop 24 = dktX3_findRoping_1 := dk_seg dksX3_findRoping_0 24 rfl rfl
theorem dksX3_findRoping_2 : cX3_findRoping.data.toList.drop 48 = dktX3_findRoping_2 := dk_seg dksX3_findRoping_1 24 rfl rfl
theorem dksX3_findRoping_3 : cX3_findRoping.data.toList.drop 72 = dktX3_findRoping_3 := dk_seg dksX3_findRoping_2 24 rfl rfl
theorem dksX3_findRoping_4 : cX3_findRoping.data.toList.drop 96 = dktX3_findRoping_4 := dk_seg dksX3_findRoping_3 24 rfl rfl
theorem dksX3_findRoping_5 : cX3_findRoping.data.toList.drop 120 = dktX3_findRoping_5 := dk_seg dksX3_findRoping_4 24 rfl rfl
theorem dX3_findRoping_0 : decode cX3_findRoping 0 = .ok (.aload_n 0, 1) := dk_42 (dk_at dksX3_findRoping_0 0 rfl rfl)
theorem dX3_findRoping_1 : decode cX3_findRoping 1 = .ok (.getfield 113, 3) := dk_180 0 113 (dk_at dksX3_findRoping_0 1 rfl rfl)
theorem dX3_findRoping_4 : decode cX3_findRoping 4 = .ok (.iconst 0, 1) := dk_3 (dk_at dksX3_findRoping_0 4 rfl rfl)
theorem dX3_findRoping_5 : decode cX3_findRoping 5 = .ok (.iconst 0, 1) := dk_3 (dk_at dksX3_findRoping_0 5 rfl rfl)
theorem dX3_findRoping_6 : decode cX3_findRoping 6 = .ok (.iastore, 1) := dk_79 (dk_at dksX3_findRoping_0 6 rfl rfl)
theorem dX3_findRoping_7 : decode cX3_findRoping 7 = .ok (.iconst 1, 1) := dk_4 (dk_at dksX3_findRoping_0 7 rfl rfl)
theorem dX3_findRoping_8 : decode cX3_findRoping 8 = .ok (.istore_n 2, 1) := dk_61 (dk_at dksX3_findRoping_0 8 rfl rfl)
theorem dX3_findRoping_9 : decode cX3_findRoping 9 = .ok (.iload_n 2, 1) := dk_28 (dk_at dksX3_findRoping_0 9 rfl rfl)
theorem dX3_findRoping_10 : decode cX3_findRoping 10 = .ok (.iconst 1, 1) := dk_4 (dk_at dksX3_findRoping_0 10 rfl rfl)
theorem dX3_findRoping_11 : decode cX3_findRoping 11 = .ok (.aload_n 0, 1) := dk_42 (dk_at dksX3_findRoping_0 11 rfl rfl)
theorem dX3_findRoping_12 : decode cX3_findRoping 12 = .ok (.getfield 432, 3) := dk_180 1 176 (dk_at dksX3_findRoping_0 12 rfl rfl)
theorem dX3_findRoping_15 : decode cX3_findRoping 15 = .ok (.ishl, 1) := dk_120 (dk_at dksX3_findRoping_0 15 rfl rfl)
theorem dX3_findRoping_16 : decode cX3_findRoping 16 = .ok (.if_icmp .ge 123, 3) := dk_162 0 123 (dk_at dksX3_findRoping_0 16 rfl rfl)
theorem dX3_findRoping_19 : decode cX3_findRoping 19 = .ok (.aload_n 0, 1) := dk_42 (dk_at dksX3_findRoping_0 19 rfl rfl)
theorem dX3_findRoping_20 : decode cX3_findRoping 20 = .ok (.getfield 113, 3) := dk_180 0 113 (dk_at dksX3_findRoping_0 20 rfl rfl)
theorem dX3_findRoping_23 : decode cX3_findRoping 23 = .ok (.iload_n 2, 1) := dk_28 (dk_at dksX3_findRoping_0 23 rfl rfl)
theorem dX3_findRoping_24 : decode cX3_findRoping 24 = .ok (.ldc_w 440, 3) := dk_19 1 184 (dk_at dksX3_findRoping_1 0 rfl rfl)
theorem dX3_findRoping_27 : decode cX3_findRoping 27 = .ok (.iastore, 1) := dk_79 (dk_at dksX3_findRoping_1 3 rfl rfl)
theorem dX3_findRoping_28 : decode cX3_findRoping 28 = .ok (.iload_n 2, 1) := dk_28 (dk_at dksX3_findRoping_1 4 rfl rfl)
theorem dX3_findRoping_29 : decode cX3_findRoping 29 = .ok (.iload_n 2, 1) := dk_28 (dk_at dksX3_findRoping_1 5 rfl rfl)
theorem dX3_findRoping_30 : decode cX3_findRoping 30 = .ok (.ineg, 1) := dk_116 (dk_at dksX3_findRoping_1 6 rfl rfl)
theorem dX3_findRoping_31 : decode cX3_findRoping 31 = .ok (.iand, 1) := dk_126 (dk_at dksX3_findRoping_1 7 rfl rfl)
theorem dX3_findRoping_32 : decode cX3_findRoping 32 = .ok (.istore_n 3, 1) := dk_62 (dk_at dksX3_findRoping_1 8 rfl rfl)
theorem dX3_findRoping_33 : decode cX3_findRoping 33 = .ok (.iconst 1, 1) := dk_4 (dk_at dksX3_findRoping_1 9 rfl rfl)
theorem dX3_findRoping_34 : decode cX3_findRoping 34 = .ok (.istore 4, 2) := dk_54 4 (dk_at dksX3_findRoping_1 10 rfl rfl)
theorem dX3_findRoping_36 : decode cX3_findRoping 36 = .ok (.iload 4, 2) := dk_21 4 (dk_at dksX3_findRoping_1 12 rfl rfl)
theorem dX3_findRoping_38 : decode cX3_findRoping 38 = .ok (.iload_n 2, 1) := dk_28 (dk_at dksX3_findRoping_1 14 rfl rfl)
theorem dX3_findRoping_39 : decode cX3_findRoping 39 = .ok (.if_icmp .gt 94, 3) := dk_163 0 94 (dk_at dksX3_findRoping_1 15 rfl rfl)
theorem dX3_findRoping_42 : decode cX3_findRoping 42 = .ok (.iload 4, 2) := dk_21 4 (dk_at dksX3_findRoping_1 18 rfl rfl)
theorem dX3_findRoping_44 : decode cX3_findRoping 44 = .ok (.iload_n 2, 1) := dk_28 (dk_at dksX3_findRoping_1 20 rfl rfl)
theorem dX3_findRoping_45 : decode cX3_findRoping 45 = .ok (.iconst (-1), 1) := dk_2 (dk_at dksX3_findRoping_1 21 rfl rfl)
theorem dX3_findRoping_46 : decode cX3_findRoping 46 = .ok (.ixor, 1) := dk_130 (dk_at dksX3_findRoping_1 22 rfl rfl)
theorem dX3_findRoping_47 : decode cX3_findRoping 47 = .ok (.iand, 1) := dk_126 (dk_at dksX3_findRoping_1 23 rfl rfl)
theorem dX3_findRoping_48 : decode cX3_findRoping 48 = .ok (.ifCond .ne 79, 3) := dk_154 0 79 (dk_at dksX3_findRoping_2 0 rfl rfl)
theorem dX3_findRoping_51 : decode cX3_findRoping 51 = .ok (.iload 4, 2) := dk_21 4 (dk_at dksX3_findRoping_2 3 rfl rfl)
theorem dX3_findRoping_53 : decode cX3_findRoping 53 = .ok (.iload_n 3, 1) := dk_29 (dk_at dksX3_findRoping_2 5 rfl rfl)
theorem dX3_findRoping_54 : decode cX3_findRoping 54 = .ok (.iand, 1) := dk_126 (dk_at dksX3_findRoping_2 6 rfl rfl)
theorem dX3_findRoping_55 : decode cX3_findRoping 55 = .ok (.ifCond .eq 72, 3) := dk_153 0 72 (dk_at dksX3_findRoping_2 7 rfl rfl)
theorem dX3_findRoping_58 : decode cX3_findRoping 58 = .ok (.aload_n 0, 1) := dk_42 (dk_at dksX3_findRoping_2 10 rfl rfl)
theorem dX3_findRoping_59 : decode cX3_findRoping 59 = .ok (.iload 4, 2) := dk_21 4 (dk_at dksX3_findRoping_2 11 rfl rfl)
theorem dX3_findRoping_61 : decode cX3_findRoping 61 = .ok (.iload_n 1, 1) := dk_27 (dk_at dksX3_findRoping_2 13 rfl rfl)
theorem dX3_findRoping_62 : decode cX3_findRoping 62 = .ok (.invokevirtual 441, 3) := dk_182 1 185 (dk_at dksX3_findRoping_2 14 rfl rfl)
theorem dX3_findRoping_65 : decode cX3_findRoping 65 = .ok (.istore 5, 2) := dk_54 5 (dk_at dksX3_findRoping_2 17 rfl rfl)
theorem dX3_findRoping_67 : decode cX3_findRoping 67 = .ok (.aload_n 0, 1) := dk_42 (dk_at dksX3_findRoping_2 19 rfl rfl)
theorem dX3_findRoping_68 : decode cX3_findRoping 68 = .ok (.getfield 113, 3) := dk_180 0 113 (dk_at dksX3_findRoping_2 20 rfl rfl)
theorem dX3_findRoping_71 : decode cX3_findRoping 71 = .ok (.iload_n 2, 1) := dk_28 (dk_at dksX3_findRoping_2 23 rfl rfl)
theorem dX3_findRoping_72 : decode cX3_findRoping 72 = .ok (.iload 4, 2) := dk_21 4 (dk_at dksX3_findRoping_3 0 rfl rfl)
theorem dX3_findRoping_74 : decode cX3_findRoping 74 = .ok (.isub, 1) := dk_100 (dk_at dksX3_findRoping_3 2 rfl rfl)
theorem dX3_findRoping_75 : decode cX3_findRoping 75 = .ok (.iaload, 1) := dk_46 (dk_at dksX3_findRoping_3 3 rfl rfl)
theorem dX3_findRoping_76 : decode cX3_findRoping 76 = .ok (.istore 6, 2) := dk_54 6 (dk_at dksX3_findRoping_3 4 rfl rfl)
theorem dX3_findRoping_78 : decode cX3_findRoping 78 = .ok (.iload 5, 2) := dk_21 5 (dk_at dksX3_findRoping_3 6 rfl rfl)
theorem dX3_findRoping_80 : decode cX3_findRoping 80 = .ok (.ldc_w 440, 3) := dk_19 1 184 (dk_at dksX3_findRoping_3 8 rfl rfl)
theorem dX3_findRoping_83 : decode cX3_findRoping 83 = .ok (.if_icmp .eq 44, 3) := dk_159 0 44 (dk_at dksX3_findRoping_3 11 rfl rfl)
theorem dX3_findRoping_86 : decode cX3_findRoping 86 = .ok (.iload 6, 2) := dk_21 6 (dk_at dksX3_findRoping_3 14 rfl rfl)
theorem dX3_findRoping_88 : decode cX3_findRoping 88 = .ok (.ldc_w 440, 3) := dk_19 1 184 (dk_at dksX3_findRoping_3 16 rfl rfl)
theorem dX3_findRoping_91 : decode cX3_findRoping 91 = .ok (.if_icmp .eq 36, 3) := dk_159 0 36 (dk_at dksX3_findRoping_3 19 rfl rfl)
theorem dX3_findRoping_94 : decode cX3_findRoping 94 = .ok (.iload 5, 2) := dk_21 5 (dk_at dksX3_findRoping_3 22 rfl rfl)
theorem dX3_findRoping_96 : decode cX3_findRoping 96 = .ok (.iload 6, 2) := dk_21 6 (dk_at dksX3_findRoping_4 0 rfl rfl)
theorem dX3_findRoping_98 : decode cX3_findRoping 98 = .ok (.iadd, 1) := dk_96 (dk_at dksX3_findRoping_4 2 rfl rfl)
theorem dX3_findRoping_99 : decode cX3_findRoping 99 = .ok (.aload_n 0, 1) := dk_42 (dk_at dksX3_findRoping_4 3 rfl rfl)
theorem dX3_findRoping_100 : decode cX3_findRoping 100 = .ok (.getfield 113, 3) := dk_180 0 113 (dk_at dksX3_findRoping_4 4 rfl rfl)
theorem dX3_findRoping_103 : decode cX3_findRoping 103 = .ok (.iload_n 2, 1) := dk_28 (dk_at dksX3_findRoping_4 7 rfl rfl)
theorem dX3_findRoping_104 : decode cX3_findRoping 104 = .ok (.iaload, 1) := dk_46 (dk_at dksX3_findRoping_4 8 rfl rfl)
theorem dX3_findRoping_105 : decode cX3_findRoping 105 = .ok (.if_icmp .le 22, 3) := dk_164 0 22 (dk_at dksX3_findRoping_4 9 rfl rfl)
theorem dX3_findRoping_108 : decode cX3_findRoping 108 = .ok (.aload_n 0, 1) := dk_42 (dk_at dksX3_findRoping_4 12 rfl rfl)
theorem dX3_findRoping_109 : decode cX3_findRoping 109 = .ok (.getfield 113, 3) := dk_180 0 113 (dk_at dksX3_findRoping_4 13 rfl rfl)
theorem dX3_findRoping_112 : decode cX3_findRoping 112 = .ok (.iload_n 2, 1) := dk_28 (dk_at dksX3_findRoping_4 16 rfl rfl)
theorem dX3_findRoping_113 : decode cX3_findRoping 113 = .ok (.iload 5, 2) := dk_21 5 (dk_at dksX3_findRoping_4 17 rfl rfl)
theorem dX3_findRoping_115 : decode cX3_findRoping 115 = .ok (.iload 6, 2) := dk_21 6 (dk_at dksX3_findRoping_4 19 rfl rfl)
theorem dX3_findRoping_117 : decode cX3_findRoping 117 = .ok (.iadd, 1) := dk_96 (dk_at dksX3_findRoping_4 21 rfl rfl)
theorem dX3_findRoping_118 : decode cX3_findRoping 118 = .ok (.iastore, 1) := dk_79 (dk_at dksX3_findRoping_4 22 rfl rfl)
theorem dX3_findRoping_119 : decode cX3_findRoping 119 = .ok (.aload_n 0, 1) := dk_42 (dk_at dksX3_findRoping_4 23 rfl rfl)
theorem dX3_findRoping_120 : decode cX3_findRoping 120 = .ok (.getfield 116, 3) := dk_180 0 116 (dk_at dksX3_findRoping_5 0 rfl rfl)
theorem dX3_findRoping_123 : decode cX3_findRoping 123 = .ok (.iload_n 2, 1) := dk_28 (dk_at dksX3_findRoping_5 3 rfl rfl)
theorem dX3_findRoping_124 : decode cX3_findRoping 124 = .ok (.iload 4, 2) := dk_21 4 (dk_at dksX3_findRoping_5 4 rfl rfl)
theorem dX3_findRoping_126 : decode cX3_findRoping 126 = .ok (.iastore, 1) := dk_79 (dk_at dksX3_findRoping_5 6 rfl rfl)
theorem dX3_findRoping_127 : decode cX3_findRoping 127 = .ok (.iinc 4 1, 3) := dk_132 4 1 (dk_at dksX3_findRoping_5 7 rfl rfl)
theorem dX3_findRoping_130 : decode cX3_findRoping 130 = .ok (.goto (-94), 3) := dk_167 255 162 (dk_at dksX3_findRoping_5 10 rfl rfl)
theorem dX3_findRoping_133 : decode cX3_findRoping 133 = .ok (.iinc 2 1, 3) := dk_132 2 1 (dk_at dksX3_findRoping_5 13 rfl rfl)
theorem dX3_findRoping_136 : decode cX3_findRoping 136 = .ok (.goto (-127), 3) := dk_167 255 129 (dk_at dksX3_findRoping_5 16 rfl rfl)
theorem dX3_findRoping_139 : decode cX3_findRoping 139 = .ok (.return_, 1) := dk_177 (dk_at dksX3_findRoping_5 19 rfl rfl)
abbrev cX3_ropeWorth : ByteArray := prog_26_method_76_code
def yX3_ropeWorth : MethodName := ⟨RX3, "ropeWorth", "(II)I"⟩
def dkwX3_ropeWorth_6 : List UInt8 := [19, 1, 184, 172]
abbrev dktX3_ropeWorth_6 : List UInt8 := dkwX3_ropeWorth_6 ++ []
def dkwX3_ropeWorth_5 : List UInt8 := [133, 20, 1, 5, 20, 1, 3, 184, 0, 214, 153, 0, 13, 21, 4, 28, 161, 0, 7, 29, 167, 0, 6]
abbrev dktX3_ropeWorth_5 : List UInt8 := dkwX3_ropeWorth_5 ++ dktX3_ropeWorth_6
def dkwX3_ropeWorth_4 : List UInt8 := [42, 180, 0, 107, 21, 5, 46, 167, 0, 4, 3, 96, 54, 4, 132, 5, 1, 167, 255, 153, 27, 184, 1, 181]
abbrev dktX3_ropeWorth_4 : List UInt8 := dkwX3_ropeWorth_4 ++ dktX3_ropeWorth_5
def dkwX3_ropeWorth_3 : List UInt8 := [167, 0, 4, 3, 96, 62, 132, 6, 1, 167, 255, 197, 21, 4, 27, 21, 5, 122, 4, 126, 4, 160, 0, 13]
abbrev dktX3_ropeWorth_3 : List UInt8 := dkwX3_ropeWorth_3 ++ dktX3_ropeWorth_4
def dkwX3_ropeWorth_2 : List UInt8 := [160, 0, 26, 21, 5, 21, 6, 159, 0, 19, 42, 180, 0, 110, 16, 9, 21, 5, 104, 21, 6, 96, 46]
abbrev dktX3_ropeWorth_2 : List UInt8 := dkwX3_ropeWorth_2 ++ dktX3_ropeWorth_3
def dkwX3_ropeWorth_1 : List UInt8 := [180, 1, 176, 162, 0, 56, 29, 27, 21, 5, 122, 4, 126, 4, 160, 0, 36, 27, 21, 6, 122, 4, 126, 4]
abbrev dktX3_ropeWorth_1 : List UInt8 := dkwX3_ropeWorth_1 ++ dktX3_ropeWorth_2
def dkwX3_ropeWorth_0 : List UInt8 := [3, 62, 3, 54, 4, 3, 54, 5, 21, 5, 42, 180, 1, 176, 162, 0, 100, 3, 54, 6, 21, 6, 42]
abbrev dktX3_ropeWorth_0 : List UInt8 := dkwX3_ropeWorth_0 ++ dktX3_ropeWorth_1
theorem dksX3_ropeWorth_0 : cX3_ropeWorth.data.toList.drop 0 = dktX3_ropeWorth_0 := by decide +kernel
theorem dksX3_ropeWorth_1 : cX3_ropeWorth.data.toList.drop 23 = dktX3_ropeWorth_1 := dk_seg dksX3_ropeWorth_0 23 rfl rfl
theorem dksX3_ropeWorth_2 : cX3_ropeWorth.data.toList.drop 47 = dktX3_ropeWorth_2 := dk_seg dksX3_ropeWorth_1 24 rfl rfl
theorem dksX3_ropeWorth_3 : cX3_ropeWorth.data.toList.drop 70 = dktX3_ropeWorth_3 := dk_seg dksX3_ropeWorth_2 23 rfl rfl
theorem dksX3_ropeWorth_4 : cX3_ropeWorth.data.toList.drop 94 = dktX3_ropeWorth_4 := dk_seg dksX3_ropeWorth_3 24 rfl rfl
theorem dksX3_ropeWorth_5 : cX3_ropeWorth.data.toList.drop 118 = dktX3_ropeWorth_5 := dk_seg dksX3_ropeWorth_4 24 rfl rfl
theorem dksX3_ropeWorth_6 : cX3_ropeWorth.data.toList.drop 141 = dktX3_ropeWorth_6 := dk_seg dksX3_ropeWorth_5 23 rfl rfl
theorem dX3_ropeWorth_0 : decode cX3_ropeWorth 0 = .ok (.iconst 0, 1) := dk_3 (dk_at dksX3_ropeWorth_0 0 rfl rfl)
theorem dX3_ropeWorth_1 : decode cX3_ropeWorth 1 = .ok (.istore_n 3, 1) := dk_62 (dk_at dksX3_ropeWorth_0 1 rfl rfl)
theorem dX3_ropeWorth_2 : decode cX3_ropeWorth 2 = .ok (.iconst 0, 1) := dk_3 (dk_at dksX3_ropeWorth_0 2 rfl rfl)
theorem dX3_ropeWorth_3 : decode cX3_ropeWorth 3 = .ok (.istore 4, 2) := dk_54 4 (dk_at dksX3_ropeWorth_0 3 rfl rfl)
theorem dX3_ropeWorth_5 : decode cX3_ropeWorth 5 = .ok (.iconst 0, 1) := dk_3 (dk_at dksX3_ropeWorth_0 5 rfl rfl)
theorem dX3_ropeWorth_6 : decode cX3_ropeWorth 6 = .ok (.istore 5, 2) := dk_54 5 (dk_at dksX3_ropeWorth_0 6 rfl rfl)
theorem dX3_ropeWorth_8 : decode cX3_ropeWorth 8 = .ok (.iload 5, 2) := dk_21 5 (dk_at dksX3_ropeWorth_0 8 rfl rfl)
theorem dX3_ropeWorth_10 : decode cX3_ropeWorth 10 = .ok (.aload_n 0, 1) := dk_42 (dk_at dksX3_ropeWorth_0 10 rfl rfl)
theorem dX3_ropeWorth_11 : decode cX3_ropeWorth 11 = .ok (.getfield 432, 3) := dk_180 1 176 (dk_at dksX3_ropeWorth_0 11 rfl rfl)
theorem dX3_ropeWorth_14 : decode cX3_ropeWorth 14 = .ok (.if_icmp .ge 100, 3) := dk_162 0 100 (dk_at dksX3_ropeWorth_0 14 rfl rfl)
theorem dX3_ropeWorth_17 : decode cX3_ropeWorth 17 = .ok (.iconst 0, 1) := dk_3 (dk_at dksX3_ropeWorth_0 17 rfl rfl)
theorem dX3_ropeWorth_18 : decode cX3_ropeWorth 18 = .ok (.istore 6, 2) := dk_54 6 (dk_at dksX3_ropeWorth_0 18 rfl rfl)
theorem dX3_ropeWorth_20 : decode cX3_ropeWorth 20 = .ok (.iload 6, 2) := dk_21 6 (dk_at dksX3_ropeWorth_0 20 rfl rfl)
theorem dX3_ropeWorth_22 : decode cX3_ropeWorth 22 = .ok (.aload_n 0, 1) := dk_42 (dk_at dksX3_ropeWorth_0 22 rfl rfl)
theorem dX3_ropeWorth_23 : decode cX3_ropeWorth 23 = .ok (.getfield 432, 3) := dk_180 1 176 (dk_at dksX3_ropeWorth_1 0 rfl rfl)
theorem dX3_ropeWorth_26 : decode cX3_ropeWorth 26 = .ok (.if_icmp .ge 56, 3) := dk_162 0 56 (dk_at dksX3_ropeWorth_1 3 rfl rfl)
theorem dX3_ropeWorth_29 : decode cX3_ropeWorth 29 = .ok (.iload_n 3, 1) := dk_29 (dk_at dksX3_ropeWorth_1 6 rfl rfl)
theorem dX3_ropeWorth_30 : decode cX3_ropeWorth 30 = .ok (.iload_n 1, 1) := dk_27 (dk_at dksX3_ropeWorth_1 7 rfl rfl)
theorem dX3_ropeWorth_31 : decode cX3_ropeWorth 31 = .ok (.iload 5, 2) := dk_21 5 (dk_at dksX3_ropeWorth_1 8 rfl rfl)
theorem dX3_ropeWorth_33 : decode cX3_ropeWorth 33 = .ok (.ishr, 1) := dk_122 (dk_at dksX3_ropeWorth_1 10 rfl rfl)
theorem dX3_ropeWorth_34 : decode cX3_ropeWorth 34 = .ok (.iconst 1, 1) := dk_4 (dk_at dksX3_ropeWorth_1 11 rfl rfl)
theorem dX3_ropeWorth_35 : decode cX3_ropeWorth 35 = .ok (.iand, 1) := dk_126 (dk_at dksX3_ropeWorth_1 12 rfl rfl)
theorem dX3_ropeWorth_36 : decode cX3_ropeWorth 36 = .ok (.iconst 1, 1) := dk_4 (dk_at dksX3_ropeWorth_1 13 rfl rfl)
theorem dX3_ropeWorth_37 : decode cX3_ropeWorth 37 = .ok (.if_icmp .ne 36, 3) := dk_160 0 36 (dk_at dksX3_ropeWorth_1 14 rfl rfl)
theorem dX3_ropeWorth_40 : decode cX3_ropeWorth 40 = .ok (.iload_n 1, 1) := dk_27 (dk_at dksX3_ropeWorth_1 17 rfl rfl)
theorem dX3_ropeWorth_41 : decode cX3_ropeWorth 41 = .ok (.iload 6, 2) := dk_21 6 (dk_at dksX3_ropeWorth_1 18 rfl rfl)
theorem dX3_ropeWorth_43 : decode cX3_ropeWorth 43 = .ok (.ishr, 1) := dk_122 (dk_at dksX3_ropeWorth_1 20 rfl rfl)
theorem dX3_ropeWorth_44 : decode cX3_ropeWorth 44 = .ok (.iconst 1, 1) := dk_4 (dk_at dksX3_ropeWorth_1 21 rfl rfl)
theorem dX3_ropeWorth_45 : decode cX3_ropeWorth 45 = .ok (.iand, 1) := dk_126 (dk_at dksX3_ropeWorth_1 22 rfl rfl)
theorem dX3_ropeWorth_46 : decode cX3_ropeWorth 46 = .ok (.iconst 1, 1) := dk_4 (dk_at dksX3_ropeWorth_1 23 rfl rfl)
theorem dX3_ropeWorth_47 : decode cX3_ropeWorth 47 = .ok (.if_icmp .ne 26, 3) := dk_160 0 26 (dk_at dksX3_ropeWorth_2 0 rfl rfl)
theorem dX3_ropeWorth_50 : decode cX3_ropeWorth 50 = .ok (.iload 5, 2) := dk_21 5 (dk_at dksX3_ropeWorth_2 3 rfl rfl)
theorem dX3_ropeWorth_52 : decode cX3_ropeWorth 52 = .ok (.iload 6, 2) := dk_21 6 (dk_at dksX3_ropeWorth_2 5 rfl rfl)
theorem dX3_ropeWorth_54 : decode cX3_ropeWorth 54 = .ok (.if_icmp .eq 19, 3) := dk_159 0 19 (dk_at dksX3_ropeWorth_2 7 rfl rfl)
theorem dX3_ropeWorth_57 : decode cX3_ropeWorth 57 = .ok (.aload_n 0, 1) := dk_42 (dk_at dksX3_ropeWorth_2 10 rfl rfl)
theorem dX3_ropeWorth_58 : decode cX3_ropeWorth 58 = .ok (.getfield 110, 3) := dk_180 0 110 (dk_at dksX3_ropeWorth_2 11 rfl rfl)
theorem dX3_ropeWorth_61 : decode cX3_ropeWorth 61 = .ok (.bipush 9, 2) := dk_16 9 (dk_at dksX3_ropeWorth_2 14 rfl rfl)
theorem dX3_ropeWorth_63 : decode cX3_ropeWorth 63 = .ok (.iload 5, 2) := dk_21 5 (dk_at dksX3_ropeWorth_2 16 rfl rfl)
theorem dX3_ropeWorth_65 : decode cX3_ropeWorth 65 = .ok (.imul, 1) := dk_104 (dk_at dksX3_ropeWorth_2 18 rfl rfl)
theorem dX3_ropeWorth_66 : decode cX3_ropeWorth 66 = .ok (.iload 6, 2) := dk_21 6 (dk_at dksX3_ropeWorth_2 19 rfl rfl)
theorem dX3_ropeWorth_68 : decode cX3_ropeWorth 68 = .ok (.iadd, 1) := dk_96 (dk_at dksX3_ropeWorth_2 21 rfl rfl)
theorem dX3_ropeWorth_69 : decode cX3_ropeWorth 69 = .ok (.iaload, 1) := dk_46 (dk_at dksX3_ropeWorth_2 22 rfl rfl)
theorem dX3_ropeWorth_70 : decode cX3_ropeWorth 70 = .ok (.goto 4, 3) := dk_167 0 4 (dk_at dksX3_ropeWorth_3 0 rfl rfl)
theorem dX3_ropeWorth_73 : decode cX3_ropeWorth 73 = .ok (.iconst 0, 1) := dk_3 (dk_at dksX3_ropeWorth_3 3 rfl rfl)
theorem dX3_ropeWorth_74 : decode cX3_ropeWorth 74 = .ok (.iadd, 1) := dk_96 (dk_at dksX3_ropeWorth_3 4 rfl rfl)
theorem dX3_ropeWorth_75 : decode cX3_ropeWorth 75 = .ok (.istore_n 3, 1) := dk_62 (dk_at dksX3_ropeWorth_3 5 rfl rfl)
theorem dX3_ropeWorth_76 : decode cX3_ropeWorth 76 = .ok (.iinc 6 1, 3) := dk_132 6 1 (dk_at dksX3_ropeWorth_3 6 rfl rfl)
theorem dX3_ropeWorth_79 : decode cX3_ropeWorth 79 = .ok (.goto (-59), 3) := dk_167 255 197 (dk_at dksX3_ropeWorth_3 9 rfl rfl)
theorem dX3_ropeWorth_82 : decode cX3_ropeWorth 82 = .ok (.iload 4, 2) := dk_21 4 (dk_at dksX3_ropeWorth_3 12 rfl rfl)
theorem dX3_ropeWorth_84 : decode cX3_ropeWorth 84 = .ok (.iload_n 1, 1) := dk_27 (dk_at dksX3_ropeWorth_3 14 rfl rfl)
theorem dX3_ropeWorth_85 : decode cX3_ropeWorth 85 = .ok (.iload 5, 2) := dk_21 5 (dk_at dksX3_ropeWorth_3 15 rfl rfl)
theorem dX3_ropeWorth_87 : decode cX3_ropeWorth 87 = .ok (.ishr, 1) := dk_122 (dk_at dksX3_ropeWorth_3 17 rfl rfl)
theorem dX3_ropeWorth_88 : decode cX3_ropeWorth 88 = .ok (.iconst 1, 1) := dk_4 (dk_at dksX3_ropeWorth_3 18 rfl rfl)
theorem dX3_ropeWorth_89 : decode cX3_ropeWorth 89 = .ok (.iand, 1) := dk_126 (dk_at dksX3_ropeWorth_3 19 rfl rfl)
theorem dX3_ropeWorth_90 : decode cX3_ropeWorth 90 = .ok (.iconst 1, 1) := dk_4 (dk_at dksX3_ropeWorth_3 20 rfl rfl)
theorem dX3_ropeWorth_91 : decode cX3_ropeWorth 91 = .ok (.if_icmp .ne 13, 3) := dk_160 0 13 (dk_at dksX3_ropeWorth_3 21 rfl rfl)
theorem dX3_ropeWorth_94 : decode cX3_ropeWorth 94 = .ok (.aload_n 0, 1) := dk_42 (dk_at dksX3_ropeWorth_4 0 rfl rfl)
theorem dX3_ropeWorth_95 : decode cX3_ropeWorth 95 = .ok (.getfield 107, 3) := dk_180 0 107 (dk_at dksX3_ropeWorth_4 1 rfl rfl)
theorem dX3_ropeWorth_98 : decode cX3_ropeWorth 98 = .ok (.iload 5, 2) := dk_21 5 (dk_at dksX3_ropeWorth_4 4 rfl rfl)
theorem dX3_ropeWorth_100 : decode cX3_ropeWorth 100 = .ok (.iaload, 1) := dk_46 (dk_at dksX3_ropeWorth_4 6 rfl rfl)
theorem dX3_ropeWorth_101 : decode cX3_ropeWorth 101 = .ok (.goto 4, 3) := dk_167 0 4 (dk_at dksX3_ropeWorth_4 7 rfl rfl)
theorem dX3_ropeWorth_104 : decode cX3_ropeWorth 104 = .ok (.iconst 0, 1) := dk_3 (dk_at dksX3_ropeWorth_4 10 rfl rfl)
theorem dX3_ropeWorth_105 : decode cX3_ropeWorth 105 = .ok (.iadd, 1) := dk_96 (dk_at dksX3_ropeWorth_4 11 rfl rfl)
theorem dX3_ropeWorth_106 : decode cX3_ropeWorth 106 = .ok (.istore 4, 2) := dk_54 4 (dk_at dksX3_ropeWorth_4 12 rfl rfl)
theorem dX3_ropeWorth_108 : decode cX3_ropeWorth 108 = .ok (.iinc 5 1, 3) := dk_132 5 1 (dk_at dksX3_ropeWorth_4 14 rfl rfl)
theorem dX3_ropeWorth_111 : decode cX3_ropeWorth 111 = .ok (.goto (-103), 3) := dk_167 255 153 (dk_at dksX3_ropeWorth_4 17 rfl rfl)
theorem dX3_ropeWorth_114 : decode cX3_ropeWorth 114 = .ok (.iload_n 1, 1) := dk_27 (dk_at dksX3_ropeWorth_4 20 rfl rfl)
theorem dX3_ropeWorth_115 : decode cX3_ropeWorth 115 = .ok (.invokestatic 437, 3) := dk_184 1 181 (dk_at dksX3_ropeWorth_4 21 rfl rfl)
theorem dX3_ropeWorth_118 : decode cX3_ropeWorth 118 = .ok (.i2l, 1) := dk_133 (dk_at dksX3_ropeWorth_5 0 rfl rfl)
theorem dX3_ropeWorth_119 : decode cX3_ropeWorth 119 = .ok (.ldc2_w 261, 3) := dk_20 1 5 (dk_at dksX3_ropeWorth_5 1 rfl rfl)
theorem dX3_ropeWorth_122 : decode cX3_ropeWorth 122 = .ok (.ldc2_w 259, 3) := dk_20 1 3 (dk_at dksX3_ropeWorth_5 4 rfl rfl)
theorem dX3_ropeWorth_125 : decode cX3_ropeWorth 125 = .ok (.invokestatic 214, 3) := dk_184 0 214 (dk_at dksX3_ropeWorth_5 7 rfl rfl)
theorem dX3_ropeWorth_128 : decode cX3_ropeWorth 128 = .ok (.ifCond .eq 13, 3) := dk_153 0 13 (dk_at dksX3_ropeWorth_5 10 rfl rfl)
theorem dX3_ropeWorth_131 : decode cX3_ropeWorth 131 = .ok (.iload 4, 2) := dk_21 4 (dk_at dksX3_ropeWorth_5 13 rfl rfl)
theorem dX3_ropeWorth_133 : decode cX3_ropeWorth 133 = .ok (.iload_n 2, 1) := dk_28 (dk_at dksX3_ropeWorth_5 15 rfl rfl)
theorem dX3_ropeWorth_134 : decode cX3_ropeWorth 134 = .ok (.if_icmp .lt 7, 3) := dk_161 0 7 (dk_at dksX3_ropeWorth_5 16 rfl rfl)
theorem dX3_ropeWorth_137 : decode cX3_ropeWorth 137 = .ok (.iload_n 3, 1) := dk_29 (dk_at dksX3_ropeWorth_5 19 rfl rfl)
theorem dX3_ropeWorth_138 : decode cX3_ropeWorth 138 = .ok (.goto 6, 3) := dk_167 0 6 (dk_at dksX3_ropeWorth_5 20 rfl rfl)
theorem dX3_ropeWorth_141 : decode cX3_ropeWorth 141 = .ok (.ldc_w 440, 3) := dk_19 1 184 (dk_at dksX3_ropeWorth_6 0 rfl rfl)
theorem dX3_ropeWorth_144 : decode cX3_ropeWorth 144 = .ok (.ireturn, 1) := dk_172 (dk_at dksX3_ropeWorth_6 3 rfl rfl)
abbrev cX3_bits : ByteArray := prog_26_method_75_code
def yX3_bits : MethodName := ⟨RX3, "bits", "(I)I"⟩
def dkwX3_bits_1 : List UInt8 := [27, 172]
abbrev dktX3_bits_1 : List UInt8 := dkwX3_bits_1 ++ []
def dkwX3_bits_0 : List UInt8 := [3, 60, 3, 61, 28, 16, 9, 162, 0, 17, 27, 26, 28, 122, 4, 126, 96, 60, 132, 2, 1, 167, 255, 239]
abbrev dktX3_bits_0 : List UInt8 := dkwX3_bits_0 ++ dktX3_bits_1
theorem dksX3_bits_0 : cX3_bits.data.toList.drop 0 = dktX3_bits_0 := by decide +kernel
theorem dksX3_bits_1 : cX3_bits.data.toList.drop 24 = dktX3_bits_1 := dk_seg dksX3_bits_0 24 rfl rfl
theorem dX3_bits_0 : decode cX3_bits 0 = .ok (.iconst 0, 1) := dk_3 (dk_at dksX3_bits_0 0 rfl rfl)
theorem dX3_bits_1 : decode cX3_bits 1 = .ok (.istore_n 1, 1) := dk_60 (dk_at dksX3_bits_0 1 rfl rfl)
theorem dX3_bits_2 : decode cX3_bits 2 = .ok (.iconst 0, 1) := dk_3 (dk_at dksX3_bits_0 2 rfl rfl)
theorem dX3_bits_3 : decode cX3_bits 3 = .ok (.istore_n 2, 1) := dk_61 (dk_at dksX3_bits_0 3 rfl rfl)
theorem dX3_bits_4 : decode cX3_bits 4 = .ok (.iload_n 2, 1) := dk_28 (dk_at dksX3_bits_0 4 rfl rfl)
theorem dX3_bits_5 : decode cX3_bits 5 = .ok (.bipush 9, 2) := dk_16 9 (dk_at dksX3_bits_0 5 rfl rfl)
theorem dX3_bits_7 : decode cX3_bits 7 = .ok (.if_icmp .ge 17, 3) := dk_162 0 17 (dk_at dksX3_bits_0 7 rfl rfl)
theorem dX3_bits_10 : decode cX3_bits 10 = .ok (.iload_n 1, 1) := dk_27 (dk_at dksX3_bits_0 10 rfl rfl)
theorem dX3_bits_11 : decode cX3_bits 11 = .ok (.iload_n 0, 1) := dk_26 (dk_at dksX3_bits_0 11 rfl rfl)
theorem dX3_bits_12 : decode cX3_bits 12 = .ok (.iload_n 2, 1) := dk_28 (dk_at dksX3_bits_0 12 rfl rfl)
theorem dX3_bits_13 : decode cX3_bits 13 = .ok (.ishr, 1) := dk_122 (dk_at dksX3_bits_0 13 rfl rfl)
theorem dX3_bits_14 : decode cX3_bits 14 = .ok (.iconst 1, 1) := dk_4 (dk_at dksX3_bits_0 14 rfl rfl)
theorem dX3_bits_15 : decode cX3_bits 15 = .ok (.iand, 1) := dk_126 (dk_at dksX3_bits_0 15 rfl rfl)
theorem dX3_bits_16 : decode cX3_bits 16 = .ok (.iadd, 1) := dk_96 (dk_at dksX3_bits_0 16 rfl rfl)
theorem dX3_bits_17 : decode cX3_bits 17 = .ok (.istore_n 1, 1) := dk_60 (dk_at dksX3_bits_0 17 rfl rfl)
theorem dX3_bits_18 : decode cX3_bits 18 = .ok (.iinc 2 1, 3) := dk_132 2 1 (dk_at dksX3_bits_0 18 rfl rfl)
theorem dX3_bits_21 : decode cX3_bits 21 = .ok (.goto (-17), 3) := dk_167 255 239 (dk_at dksX3_bits_0 21 rfl rfl)
theorem dX3_bits_24 : decode cX3_bits 24 = .ok (.iload_n 1, 1) := dk_27 (dk_at dksX3_bits_1 0 rfl rfl)
theorem dX3_bits_25 : decode cX3_bits 25 = .ok (.ireturn, 1) := dk_172 (dk_at dksX3_bits_1 1 rfl rfl)
abbrev cX3_rope : ByteArray := prog_26_method_79_code
def yX3_rope : MethodName := ⟨RX3, "rope", "(IIII)I"⟩
def dkwX3_rope_4 : List UInt8 := [180, 1, 193, 21, 4, 79, 42, 89, 180, 1, 193, 4, 96, 181, 1, 193, 42, 180, 1, 193, 4, 100, 172]
abbrev dktX3_rope_4 : List UInt8 := dkwX3_rope_4 ++ []
def dkwX3_rope_3 : List UInt8 := [180, 0, 122, 42, 180, 1, 193, 28, 79, 42, 180, 0, 125, 42, 180, 1, 193, 29, 79, 42, 180, 0, 128, 42]
abbrev dktX3_rope_3 : List UInt8 := dkwX3_rope_3 ++ dktX3_rope_4
def dkwX3_rope_2 : List UInt8 := [42, 180, 1, 193, 16, 8, 160, 0, 6, 16, 253, 172, 42, 180, 0, 119, 42, 180, 1, 193, 27, 79, 42]
abbrev dktX3_rope_2 : List UInt8 := dkwX3_rope_2 ++ dktX3_rope_3
def dkwX3_rope_1 : List UInt8 := [20, 1, 19, 184, 0, 214, 153, 0, 16, 21, 4, 133, 10, 20, 0, 224, 184, 0, 214, 154, 0, 5, 2, 172]
abbrev dktX3_rope_1 : List UInt8 := dkwX3_rope_1 ++ dktX3_rope_2
def dkwX3_rope_0 : List UInt8 := [42, 27, 182, 0, 241, 153, 0, 40, 28, 133, 9, 20, 0, 224, 184, 0, 214, 153, 0, 28, 29, 133, 9]
abbrev dktX3_rope_0 : List UInt8 := dkwX3_rope_0 ++ dktX3_rope_1
theorem dksX3_rope_0 : cX3_rope.data.toList.drop 0 = dktX3_rope_0 := by decide +kernel
theorem dksX3_rope_1 : cX3_rope.data.toList.drop 23 = dktX3_rope_1 := dk_seg dksX3_rope_0 23 rfl rfl
theorem dksX3_rope_2 : cX3_rope.data.toList.drop 47 = dktX3_rope_2 := dk_seg dksX3_rope_1 24 rfl rfl
theorem dksX3_rope_3 : cX3_rope.data.toList.drop 70 = dktX3_rope_3 := dk_seg dksX3_rope_2 23 rfl rfl
theorem dksX3_rope_4 : cX3_rope.data.toList.drop 94 = dktX3_rope_4 := dk_seg dksX3_rope_3 24 rfl rfl
theorem dX3_rope_0 : decode cX3_rope 0 = .ok (.aload_n 0, 1) := dk_42 (dk_at dksX3_rope_0 0 rfl rfl)
theorem dX3_rope_1 : decode cX3_rope 1 = .ok (.iload_n 1, 1) := dk_27 (dk_at dksX3_rope_0 1 rfl rfl)
theorem dX3_rope_2 : decode cX3_rope 2 = .ok (.invokevirtual 241, 3) := dk_182 0 241 (dk_at dksX3_rope_0 2 rfl rfl)
theorem dX3_rope_5 : decode cX3_rope 5 = .ok (.ifCond .eq 40, 3) := dk_153 0 40 (dk_at dksX3_rope_0 5 rfl rfl)
theorem dX3_rope_8 : decode cX3_rope 8 = .ok (.iload_n 2, 1) := dk_28 (dk_at dksX3_rope_0 8 rfl rfl)
theorem dX3_rope_9 : decode cX3_rope 9 = .ok (.i2l, 1) := dk_133 (dk_at dksX3_rope_0 9 rfl rfl)
theorem dX3_rope_10 : decode cX3_rope 10 = .ok (.lconst 0, 1) := dk_9 (dk_at dksX3_rope_0 10 rfl rfl)
theorem dX3_rope_11 : decode cX3_rope 11 = .ok (.ldc2_w 224, 3) := dk_20 0 224 (dk_at dksX3_rope_0 11 rfl rfl)
theorem dX3_rope_14 : decode cX3_rope 14 = .ok (.invokestatic 214, 3) := dk_184 0 214 (dk_at dksX3_rope_0 14 rfl rfl)
theorem dX3_rope_17 : decode cX3_rope 17 = .ok (.ifCond .eq 28, 3) := dk_153 0 28 (dk_at dksX3_rope_0 17 rfl rfl)
theorem dX3_rope_20 : decode cX3_rope 20 = .ok (.iload_n 3, 1) := dk_29 (dk_at dksX3_rope_0 20 rfl rfl)
theorem dX3_rope_21 : decode cX3_rope 21 = .ok (.i2l, 1) := dk_133 (dk_at dksX3_rope_0 21 rfl rfl)
theorem dX3_rope_22 : decode cX3_rope 22 = .ok (.lconst 0, 1) := dk_9 (dk_at dksX3_rope_0 22 rfl rfl)
theorem dX3_rope_23 : decode cX3_rope 23 = .ok (.ldc2_w 275, 3) := dk_20 1 19 (dk_at dksX3_rope_1 0 rfl rfl)
theorem dX3_rope_26 : decode cX3_rope 26 = .ok (.invokestatic 214, 3) := dk_184 0 214 (dk_at dksX3_rope_1 3 rfl rfl)
theorem dX3_rope_29 : decode cX3_rope 29 = .ok (.ifCond .eq 16, 3) := dk_153 0 16 (dk_at dksX3_rope_1 6 rfl rfl)
theorem dX3_rope_32 : decode cX3_rope 32 = .ok (.iload 4, 2) := dk_21 4 (dk_at dksX3_rope_1 9 rfl rfl)
theorem dX3_rope_34 : decode cX3_rope 34 = .ok (.i2l, 1) := dk_133 (dk_at dksX3_rope_1 11 rfl rfl)
theorem dX3_rope_35 : decode cX3_rope 35 = .ok (.lconst 1, 1) := dk_10 (dk_at dksX3_rope_1 12 rfl rfl)
theorem dX3_rope_36 : decode cX3_rope 36 = .ok (.ldc2_w 224, 3) := dk_20 0 224 (dk_at dksX3_rope_1 13 rfl rfl)
theorem dX3_rope_39 : decode cX3_rope 39 = .ok (.invokestatic 214, 3) := dk_184 0 214 (dk_at dksX3_rope_1 16 rfl rfl)
theorem dX3_rope_42 : decode cX3_rope 42 = .ok (.ifCond .ne 5, 3) := dk_154 0 5 (dk_at dksX3_rope_1 19 rfl rfl)
theorem dX3_rope_45 : decode cX3_rope 45 = .ok (.iconst (-1), 1) := dk_2 (dk_at dksX3_rope_1 22 rfl rfl)
theorem dX3_rope_46 : decode cX3_rope 46 = .ok (.ireturn, 1) := dk_172 (dk_at dksX3_rope_1 23 rfl rfl)
theorem dX3_rope_47 : decode cX3_rope 47 = .ok (.aload_n 0, 1) := dk_42 (dk_at dksX3_rope_2 0 rfl rfl)
theorem dX3_rope_48 : decode cX3_rope 48 = .ok (.getfield 449, 3) := dk_180 1 193 (dk_at dksX3_rope_2 1 rfl rfl)
theorem dX3_rope_51 : decode cX3_rope 51 = .ok (.bipush 8, 2) := dk_16 8 (dk_at dksX3_rope_2 4 rfl rfl)
theorem dX3_rope_53 : decode cX3_rope 53 = .ok (.if_icmp .ne 6, 3) := dk_160 0 6 (dk_at dksX3_rope_2 6 rfl rfl)
theorem dX3_rope_56 : decode cX3_rope 56 = .ok (.bipush (-3), 2) := dk_16 253 (dk_at dksX3_rope_2 9 rfl rfl)
theorem dX3_rope_58 : decode cX3_rope 58 = .ok (.ireturn, 1) := dk_172 (dk_at dksX3_rope_2 11 rfl rfl)
theorem dX3_rope_59 : decode cX3_rope 59 = .ok (.aload_n 0, 1) := dk_42 (dk_at dksX3_rope_2 12 rfl rfl)
theorem dX3_rope_60 : decode cX3_rope 60 = .ok (.getfield 119, 3) := dk_180 0 119 (dk_at dksX3_rope_2 13 rfl rfl)
theorem dX3_rope_63 : decode cX3_rope 63 = .ok (.aload_n 0, 1) := dk_42 (dk_at dksX3_rope_2 16 rfl rfl)
theorem dX3_rope_64 : decode cX3_rope 64 = .ok (.getfield 449, 3) := dk_180 1 193 (dk_at dksX3_rope_2 17 rfl rfl)
theorem dX3_rope_67 : decode cX3_rope 67 = .ok (.iload_n 1, 1) := dk_27 (dk_at dksX3_rope_2 20 rfl rfl)
theorem dX3_rope_68 : decode cX3_rope 68 = .ok (.iastore, 1) := dk_79 (dk_at dksX3_rope_2 21 rfl rfl)
theorem dX3_rope_69 : decode cX3_rope 69 = .ok (.aload_n 0, 1) := dk_42 (dk_at dksX3_rope_2 22 rfl rfl)
theorem dX3_rope_70 : decode cX3_rope 70 = .ok (.getfield 122, 3) := dk_180 0 122 (dk_at dksX3_rope_3 0 rfl rfl)
theorem dX3_rope_73 : decode cX3_rope 73 = .ok (.aload_n 0, 1) := dk_42 (dk_at dksX3_rope_3 3 rfl rfl)
theorem dX3_rope_74 : decode cX3_rope 74 = .ok (.getfield 449, 3) := dk_180 1 193 (dk_at dksX3_rope_3 4 rfl rfl)
theorem dX3_rope_77 : decode cX3_rope 77 = .ok (.iload_n 2, 1) := dk_28 (dk_at dksX3_rope_3 7 rfl rfl)
theorem dX3_rope_78 : decode cX3_rope 78 = .ok (.iastore, 1) := dk_79 (dk_at dksX3_rope_3 8 rfl rfl)
theorem dX3_rope_79 : decode cX3_rope 79 = .ok (.aload_n 0, 1) := dk_42 (dk_at dksX3_rope_3 9 rfl rfl)
theorem dX3_rope_80 : decode cX3_rope 80 = .ok (.getfield 125, 3) := dk_180 0 125 (dk_at dksX3_rope_3 10 rfl rfl)
theorem dX3_rope_83 : decode cX3_rope 83 = .ok (.aload_n 0, 1) := dk_42 (dk_at dksX3_rope_3 13 rfl rfl)
theorem dX3_rope_84 : decode cX3_rope 84 = .ok (.getfield 449, 3) := dk_180 1 193 (dk_at dksX3_rope_3 14 rfl rfl)
theorem dX3_rope_87 : decode cX3_rope 87 = .ok (.iload_n 3, 1) := dk_29 (dk_at dksX3_rope_3 17 rfl rfl)
theorem dX3_rope_88 : decode cX3_rope 88 = .ok (.iastore, 1) := dk_79 (dk_at dksX3_rope_3 18 rfl rfl)
theorem dX3_rope_89 : decode cX3_rope 89 = .ok (.aload_n 0, 1) := dk_42 (dk_at dksX3_rope_3 19 rfl rfl)
theorem dX3_rope_90 : decode cX3_rope 90 = .ok (.getfield 128, 3) := dk_180 0 128 (dk_at dksX3_rope_3 20 rfl rfl)
theorem dX3_rope_93 : decode cX3_rope 93 = .ok (.aload_n 0, 1) := dk_42 (dk_at dksX3_rope_3 23 rfl rfl)
theorem dX3_rope_94 : decode cX3_rope 94 = .ok (.getfield 449, 3) := dk_180 1 193 (dk_at dksX3_rope_4 0 rfl rfl)
theorem dX3_rope_97 : decode cX3_rope 97 = .ok (.iload 4, 2) := dk_21 4 (dk_at dksX3_rope_4 3 rfl rfl)
theorem dX3_rope_99 : decode cX3_rope 99 = .ok (.iastore, 1) := dk_79 (dk_at dksX3_rope_4 5 rfl rfl)
theorem dX3_rope_100 : decode cX3_rope 100 = .ok (.aload_n 0, 1) := dk_42 (dk_at dksX3_rope_4 6 rfl rfl)
theorem dX3_rope_101 : decode cX3_rope 101 = .ok (.dup, 1) := dk_89 (dk_at dksX3_rope_4 7 rfl rfl)
theorem dX3_rope_102 : decode cX3_rope 102 = .ok (.getfield 449, 3) := dk_180 1 193 (dk_at dksX3_rope_4 8 rfl rfl)
theorem dX3_rope_105 : decode cX3_rope 105 = .ok (.iconst 1, 1) := dk_4 (dk_at dksX3_rope_4 11 rfl rfl)
theorem dX3_rope_106 : decode cX3_rope 106 = .ok (.iadd, 1) := dk_96 (dk_at dksX3_rope_4 12 rfl rfl)
theorem dX3_rope_107 : decode cX3_rope 107 = .ok (.putfield 449, 3) := dk_181 1 193 (dk_at dksX3_rope_4 13 rfl rfl)
theorem dX3_rope_110 : decode cX3_rope 110 = .ok (.aload_n 0, 1) := dk_42 (dk_at dksX3_rope_4 16 rfl rfl)
theorem dX3_rope_111 : decode cX3_rope 111 = .ok (.getfield 449, 3) := dk_180 1 193 (dk_at dksX3_rope_4 17 rfl rfl)
theorem dX3_rope_114 : decode cX3_rope 114 = .ok (.iconst 1, 1) := dk_4 (dk_at dksX3_rope_4 20 rfl rfl)
theorem dX3_rope_115 : decode cX3_rope 115 = .ok (.isub, 1) := dk_100 (dk_at dksX3_rope_4 21 rfl rfl)
theorem dX3_rope_116 : decode cX3_rope 116 = .ok (.ireturn, 1) := dk_172 (dk_at dksX3_rope_4 22 rfl rfl)
abbrev cX3_unrope : ByteArray := prog_26_method_80_code
def yX3_unrope : MethodName := ⟨RX3, "unrope", "()I"⟩
def dkwX3_unrope_1 : List UInt8 := [172]
abbrev dktX3_unrope_1 : List UInt8 := dkwX3_unrope_1 ++ []
def dkwX3_unrope_0 : List UInt8 := [42, 180, 1, 193, 154, 0, 6, 16, 252, 172, 42, 89, 180, 1, 193, 4, 100, 181, 1, 193, 42, 180, 1, 193]
abbrev dktX3_unrope_0 : List UInt8 := dkwX3_unrope_0 ++ dktX3_unrope_1
theorem dksX3_unrope_0 : cX3_unrope.data.toList.drop 0 = dktX3_unrope_0 := by decide +kernel
theorem dksX3_unrope_1 : cX3_unrope.data.toList.drop 24 = dktX3_unrope_1 := dk_seg dksX3_unrope_0 24 rfl rfl
theorem dX3_unrope_0 : decode cX3_unrope 0 = .ok (.aload_n 0, 1) := dk_42 (dk_at dksX3_unrope_0 0 rfl rfl)
theorem dX3_unrope_1 : decode cX3_unrope 1 = .ok (.getfield 449, 3) := dk_180 1 193 (dk_at dksX3_unrope_0 1 rfl rfl)
theorem dX3_unrope_4 : decode cX3_unrope 4 = .ok (.ifCond .ne 6, 3) := dk_154 0 6 (dk_at dksX3_unrope_0 4 rfl rfl)
theorem dX3_unrope_7 : decode cX3_unrope 7 = .ok (.bipush (-4), 2) := dk_16 252 (dk_at dksX3_unrope_0 7 rfl rfl)
theorem dX3_unrope_9 : decode cX3_unrope 9 = .ok (.ireturn, 1) := dk_172 (dk_at dksX3_unrope_0 9 rfl rfl)
theorem dX3_unrope_10 : decode cX3_unrope 10 = .ok (.aload_n 0, 1) := dk_42 (dk_at dksX3_unrope_0 10 rfl rfl)
theorem dX3_unrope_11 : decode cX3_unrope 11 = .ok (.dup, 1) := dk_89 (dk_at dksX3_unrope_0 11 rfl rfl)
theorem dX3_unrope_12 : decode cX3_unrope 12 = .ok (.getfield 449, 3) := dk_180 1 193 (dk_at dksX3_unrope_0 12 rfl rfl)
theorem dX3_unrope_15 : decode cX3_unrope 15 = .ok (.iconst 1, 1) := dk_4 (dk_at dksX3_unrope_0 15 rfl rfl)
theorem dX3_unrope_16 : decode cX3_unrope 16 = .ok (.isub, 1) := dk_100 (dk_at dksX3_unrope_0 16 rfl rfl)
theorem dX3_unrope_17 : decode cX3_unrope 17 = .ok (.putfield 449, 3) := dk_181 1 193 (dk_at dksX3_unrope_0 17 rfl rfl)
theorem dX3_unrope_20 : decode cX3_unrope 20 = .ok (.aload_n 0, 1) := dk_42 (dk_at dksX3_unrope_0 20 rfl rfl)
theorem dX3_unrope_21 : decode cX3_unrope 21 = .ok (.getfield 449, 3) := dk_180 1 193 (dk_at dksX3_unrope_0 21 rfl rfl)
theorem dX3_unrope_24 : decode cX3_unrope 24 = .ok (.ireturn, 1) := dk_172 (dk_at dksX3_unrope_1 0 rfl rfl)
abbrev cX3_went : ByteArray := prog_26_method_88_code
def yX3_went : MethodName := ⟨RX3, "went", "(II)I"⟩
def dkwX3_went_6 : List UInt8 := [172, 42, 180, 0, 140, 27, 46, 172, 42, 180, 0, 143, 27, 46, 172]
abbrev dktX3_went_6 : List UInt8 := dkwX3_went_6 ++ []
def dkwX3_went_5 : List UInt8 := [27, 51, 153, 0, 7, 4, 167, 0, 4, 3, 172, 42, 180, 0, 155, 27, 46, 172, 42, 180, 0, 158, 27, 46]
abbrev dktX3_went_5 : List UInt8 := dkwX3_went_5 ++ dktX3_went_6
def dkwX3_went_4 : List UInt8 := [180, 0, 134, 27, 51, 153, 0, 12, 42, 180, 0, 152, 27, 46, 167, 0, 5, 16, 251, 172, 42, 180, 0, 137]
abbrev dktX3_went_4 : List UInt8 := dkwX3_went_4 ++ dktX3_went_5
def dkwX3_went_3 : List UInt8 := [42, 180, 0, 134, 27, 51, 153, 0, 12, 42, 180, 0, 143, 27, 46, 167, 0, 5, 16, 251, 172, 42]
abbrev dktX3_went_3 : List UInt8 := dkwX3_went_3 ++ dktX3_went_4
def dkwX3_went_2 : List UInt8 := [170, 0, 0, 0, 0, 0, 117, 0, 0, 0, 0, 0, 0, 0, 5, 0, 0, 0, 39, 0, 0, 0, 60, 0, 0, 0, 81, 0, 0, 0, 96, 0, 0, 0, 103, 0, 0, 0, 110]
abbrev dktX3_went_2 : List UInt8 := dkwX3_went_2 ++ dktX3_went_3
def dkwX3_went_1 : List UInt8 := [184, 0, 214, 154, 0, 5, 2, 172, 42, 16, 95, 182, 1, 216, 28]
abbrev dktX3_went_1 : List UInt8 := dkwX3_went_1 ++ dktX3_went_2
def dkwX3_went_0 : List UInt8 := [27, 133, 9, 42, 180, 1, 193, 4, 100, 133, 184, 0, 214, 153, 0, 15, 28, 133, 9, 20, 1, 39]
abbrev dktX3_went_0 : List UInt8 := dkwX3_went_0 ++ dktX3_went_1
theorem dksX3_went_0 : cX3_went.data.toList.drop 0 = dktX3_went_0 := by decide +kernel
theorem dksX3_went_1 : cX3_went.data.toList.drop 22 = dktX3_went_1 := dk_seg dksX3_went_0 22 rfl rfl
theorem dksX3_went_2 : cX3_went.data.toList.drop 37 = dktX3_went_2 := dk_seg dksX3_went_1 15 rfl rfl
theorem dksX3_went_3 : cX3_went.data.toList.drop 76 = dktX3_went_3 := dk_seg dksX3_went_2 39 rfl rfl
theorem dksX3_went_4 : cX3_went.data.toList.drop 98 = dktX3_went_4 := dk_seg dksX3_went_3 22 rfl rfl
theorem dksX3_went_5 : cX3_went.data.toList.drop 122 = dktX3_went_5 := dk_seg dksX3_went_4 24 rfl rfl
theorem dksX3_went_6 : cX3_went.data.toList.drop 146 = dktX3_went_6 := dk_seg dksX3_went_5 24 rfl rfl
theorem dX3_went_0 : decode cX3_went 0 = .ok (.iload_n 1, 1) := dk_27 (dk_at dksX3_went_0 0 rfl rfl)
theorem dX3_went_1 : decode cX3_went 1 = .ok (.i2l, 1) := dk_133 (dk_at dksX3_went_0 1 rfl rfl)
theorem dX3_went_2 : decode cX3_went 2 = .ok (.lconst 0, 1) := dk_9 (dk_at dksX3_went_0 2 rfl rfl)
theorem dX3_went_3 : decode cX3_went 3 = .ok (.aload_n 0, 1) := dk_42 (dk_at dksX3_went_0 3 rfl rfl)
theorem dX3_went_4 : decode cX3_went 4 = .ok (.getfield 449, 3) := dk_180 1 193 (dk_at dksX3_went_0 4 rfl rfl)
theorem dX3_went_7 : decode cX3_went 7 = .ok (.iconst 1, 1) := dk_4 (dk_at dksX3_went_0 7 rfl rfl)
theorem dX3_went_8 : decode cX3_went 8 = .ok (.isub, 1) := dk_100 (dk_at dksX3_went_0 8 rfl rfl)
theorem dX3_went_9 : decode cX3_went 9 = .ok (.i2l, 1) := dk_133 (dk_at dksX3_went_0 9 rfl rfl)
theorem dX3_went_10 : decode cX3_went 10 = .ok (.invokestatic 214, 3) := dk_184 0 214 (dk_at dksX3_went_0 10 rfl rfl)
theorem dX3_went_13 : decode cX3_went 13 = .ok (.ifCond .eq 15, 3) := dk_153 0 15 (dk_at dksX3_went_0 13 rfl rfl)
theorem dX3_went_16 : decode cX3_went 16 = .ok (.iload_n 2, 1) := dk_28 (dk_at dksX3_went_0 16 rfl rfl)
theorem dX3_went_17 : decode cX3_went 17 = .ok (.i2l, 1) := dk_133 (dk_at dksX3_went_0 17 rfl rfl)
theorem dX3_went_18 : decode cX3_went 18 = .ok (.lconst 0, 1) := dk_9 (dk_at dksX3_went_0 18 rfl rfl)
theorem dX3_went_19 : decode cX3_went 19 = .ok (.ldc2_w 295, 3) := dk_20 1 39 (dk_at dksX3_went_0 19 rfl rfl)
theorem dX3_went_22 : decode cX3_went 22 = .ok (.invokestatic 214, 3) := dk_184 0 214 (dk_at dksX3_went_1 0 rfl rfl)
theorem dX3_went_25 : decode cX3_went 25 = .ok (.ifCond .ne 5, 3) := dk_154 0 5 (dk_at dksX3_went_1 3 rfl rfl)
theorem dX3_went_28 : decode cX3_went 28 = .ok (.iconst (-1), 1) := dk_2 (dk_at dksX3_went_1 6 rfl rfl)
theorem dX3_went_29 : decode cX3_went 29 = .ok (.ireturn, 1) := dk_172 (dk_at dksX3_went_1 7 rfl rfl)
theorem dX3_went_30 : decode cX3_went 30 = .ok (.aload_n 0, 1) := dk_42 (dk_at dksX3_went_1 8 rfl rfl)
theorem dX3_went_31 : decode cX3_went 31 = .ok (.bipush 95, 2) := dk_16 95 (dk_at dksX3_went_1 9 rfl rfl)
theorem dX3_went_33 : decode cX3_went 33 = .ok (.invokevirtual 472, 3) := dk_182 1 216 (dk_at dksX3_went_1 11 rfl rfl)
theorem dX3_went_36 : decode cX3_went 36 = .ok (.iload_n 2, 1) := dk_28 (dk_at dksX3_went_1 14 rfl rfl)
theorem dX3_went_37 : decode cX3_went 37 = .ok (.tableswitch 117 0 5 #[39, 60, 81, 96, 103, 110], 39) := by decide +kernel
theorem dX3_went_76 : decode cX3_went 76 = .ok (.aload_n 0, 1) := dk_42 (dk_at dksX3_went_3 0 rfl rfl)
theorem dX3_went_77 : decode cX3_went 77 = .ok (.getfield 134, 3) := dk_180 0 134 (dk_at dksX3_went_3 1 rfl rfl)
theorem dX3_went_80 : decode cX3_went 80 = .ok (.iload_n 1, 1) := dk_27 (dk_at dksX3_went_3 4 rfl rfl)
theorem dX3_went_81 : decode cX3_went 81 = .ok (.baload, 1) := dk_51 (dk_at dksX3_went_3 5 rfl rfl)
theorem dX3_went_82 : decode cX3_went 82 = .ok (.ifCond .eq 12, 3) := dk_153 0 12 (dk_at dksX3_went_3 6 rfl rfl)
theorem dX3_went_85 : decode cX3_went 85 = .ok (.aload_n 0, 1) := dk_42 (dk_at dksX3_went_3 9 rfl rfl)
theorem dX3_went_86 : decode cX3_went 86 = .ok (.getfield 143, 3) := dk_180 0 143 (dk_at dksX3_went_3 10 rfl rfl)
theorem dX3_went_89 : decode cX3_went 89 = .ok (.iload_n 1, 1) := dk_27 (dk_at dksX3_went_3 13 rfl rfl)
theorem dX3_went_90 : decode cX3_went 90 = .ok (.iaload, 1) := dk_46 (dk_at dksX3_went_3 14 rfl rfl)
theorem dX3_went_91 : decode cX3_went 91 = .ok (.goto 5, 3) := dk_167 0 5 (dk_at dksX3_went_3 15 rfl rfl)
theorem dX3_went_94 : decode cX3_went 94 = .ok (.bipush (-5), 2) := dk_16 251 (dk_at dksX3_went_3 18 rfl rfl)
theorem dX3_went_96 : decode cX3_went 96 = .ok (.ireturn, 1) := dk_172 (dk_at dksX3_went_3 20 rfl rfl)
theorem dX3_went_97 : decode cX3_went 97 = .ok (.aload_n 0, 1) := dk_42 (dk_at dksX3_went_3 21 rfl rfl)
theorem dX3_went_98 : decode cX3_went 98 = .ok (.getfield 134, 3) := dk_180 0 134 (dk_at dksX3_went_4 0 rfl rfl)
theorem dX3_went_101 : decode cX3_went 101 = .ok (.iload_n 1, 1) := dk_27 (dk_at dksX3_went_4 3 rfl rfl)
theorem dX3_went_102 : decode cX3_went 102 = .ok (.baload, 1) := dk_51 (dk_at dksX3_went_4 4 rfl rfl)
theorem dX3_went_103 : decode cX3_went 103 = .ok (.ifCond .eq 12, 3) := dk_153 0 12 (dk_at dksX3_went_4 5 rfl rfl)
theorem dX3_went_106 : decode cX3_went 106 = .ok (.aload_n 0, 1) := dk_42 (dk_at dksX3_went_4 8 rfl rfl)
theorem dX3_went_107 : decode cX3_went 107 = .ok (.getfield 152, 3) := dk_180 0 152 (dk_at dksX3_went_4 9 rfl rfl)
theorem dX3_went_110 : decode cX3_went 110 = .ok (.iload_n 1, 1) := dk_27 (dk_at dksX3_went_4 12 rfl rfl)
theorem dX3_went_111 : decode cX3_went 111 = .ok (.iaload, 1) := dk_46 (dk_at dksX3_went_4 13 rfl rfl)
theorem dX3_went_112 : decode cX3_went 112 = .ok (.goto 5, 3) := dk_167 0 5 (dk_at dksX3_went_4 14 rfl rfl)
theorem dX3_went_115 : decode cX3_went 115 = .ok (.bipush (-5), 2) := dk_16 251 (dk_at dksX3_went_4 17 rfl rfl)
theorem dX3_went_117 : decode cX3_went 117 = .ok (.ireturn, 1) := dk_172 (dk_at dksX3_went_4 19 rfl rfl)
theorem dX3_went_118 : decode cX3_went 118 = .ok (.aload_n 0, 1) := dk_42 (dk_at dksX3_went_4 20 rfl rfl)
theorem dX3_went_119 : decode cX3_went 119 = .ok (.getfield 137, 3) := dk_180 0 137 (dk_at dksX3_went_4 21 rfl rfl)
theorem dX3_went_122 : decode cX3_went 122 = .ok (.iload_n 1, 1) := dk_27 (dk_at dksX3_went_5 0 rfl rfl)
theorem dX3_went_123 : decode cX3_went 123 = .ok (.baload, 1) := dk_51 (dk_at dksX3_went_5 1 rfl rfl)
theorem dX3_went_124 : decode cX3_went 124 = .ok (.ifCond .eq 7, 3) := dk_153 0 7 (dk_at dksX3_went_5 2 rfl rfl)
theorem dX3_went_127 : decode cX3_went 127 = .ok (.iconst 1, 1) := dk_4 (dk_at dksX3_went_5 5 rfl rfl)
theorem dX3_went_128 : decode cX3_went 128 = .ok (.goto 4, 3) := dk_167 0 4 (dk_at dksX3_went_5 6 rfl rfl)
theorem dX3_went_131 : decode cX3_went 131 = .ok (.iconst 0, 1) := dk_3 (dk_at dksX3_went_5 9 rfl rfl)
theorem dX3_went_132 : decode cX3_went 132 = .ok (.ireturn, 1) := dk_172 (dk_at dksX3_went_5 10 rfl rfl)
theorem dX3_went_133 : decode cX3_went 133 = .ok (.aload_n 0, 1) := dk_42 (dk_at dksX3_went_5 11 rfl rfl)
theorem dX3_went_134 : decode cX3_went 134 = .ok (.getfield 155, 3) := dk_180 0 155 (dk_at dksX3_went_5 12 rfl rfl)
theorem dX3_went_137 : decode cX3_went 137 = .ok (.iload_n 1, 1) := dk_27 (dk_at dksX3_went_5 15 rfl rfl)
theorem dX3_went_138 : decode cX3_went 138 = .ok (.iaload, 1) := dk_46 (dk_at dksX3_went_5 16 rfl rfl)
theorem dX3_went_139 : decode cX3_went 139 = .ok (.ireturn, 1) := dk_172 (dk_at dksX3_went_5 17 rfl rfl)
theorem dX3_went_140 : decode cX3_went 140 = .ok (.aload_n 0, 1) := dk_42 (dk_at dksX3_went_5 18 rfl rfl)
theorem dX3_went_141 : decode cX3_went 141 = .ok (.getfield 158, 3) := dk_180 0 158 (dk_at dksX3_went_5 19 rfl rfl)
theorem dX3_went_144 : decode cX3_went 144 = .ok (.iload_n 1, 1) := dk_27 (dk_at dksX3_went_5 22 rfl rfl)
theorem dX3_went_145 : decode cX3_went 145 = .ok (.iaload, 1) := dk_46 (dk_at dksX3_went_5 23 rfl rfl)
theorem dX3_went_146 : decode cX3_went 146 = .ok (.ireturn, 1) := dk_172 (dk_at dksX3_went_6 0 rfl rfl)
theorem dX3_went_147 : decode cX3_went 147 = .ok (.aload_n 0, 1) := dk_42 (dk_at dksX3_went_6 1 rfl rfl)
theorem dX3_went_148 : decode cX3_went 148 = .ok (.getfield 140, 3) := dk_180 0 140 (dk_at dksX3_went_6 2 rfl rfl)
theorem dX3_went_151 : decode cX3_went 151 = .ok (.iload_n 1, 1) := dk_27 (dk_at dksX3_went_6 5 rfl rfl)
theorem dX3_went_152 : decode cX3_went 152 = .ok (.iaload, 1) := dk_46 (dk_at dksX3_went_6 6 rfl rfl)
theorem dX3_went_153 : decode cX3_went 153 = .ok (.ireturn, 1) := dk_172 (dk_at dksX3_went_6 7 rfl rfl)
theorem dX3_went_154 : decode cX3_went 154 = .ok (.aload_n 0, 1) := dk_42 (dk_at dksX3_went_6 8 rfl rfl)
theorem dX3_went_155 : decode cX3_went 155 = .ok (.getfield 143, 3) := dk_180 0 143 (dk_at dksX3_went_6 9 rfl rfl)
theorem dX3_went_158 : decode cX3_went 158 = .ok (.iload_n 1, 1) := dk_27 (dk_at dksX3_went_6 12 rfl rfl)
theorem dX3_went_159 : decode cX3_went 159 = .ok (.iaload, 1) := dk_46 (dk_at dksX3_went_6 13 rfl rfl)
theorem dX3_went_160 : decode cX3_went 160 = .ok (.ireturn, 1) := dk_172 (dk_at dksX3_went_6 14 rfl rfl)
abbrev cX3_goesTo : ByteArray := prog_26_method_87_code
def yX3_goesTo : MethodName := ⟨RX3, "goesTo", "(I)V"⟩
def dkwX3_goesTo_5 : List UInt8 := [177]
abbrev dktX3_goesTo_5 : List UInt8 := dkwX3_goesTo_5 ++ []
def dkwX3_goesTo_4 : List UInt8 := [132, 2, 1, 167, 255, 226, 3, 61, 28, 27, 163, 0, 14, 42, 28, 182, 1, 213, 132, 2, 1, 167, 255, 243]
abbrev dktX3_goesTo_4 : List UInt8 := dkwX3_goesTo_4 ++ dktX3_goesTo_5
def dkwX3_goesTo_3 : List UInt8 := [162, 0, 30, 42, 180, 0, 161, 28, 3, 79, 42, 180, 0, 164, 28, 3, 79, 42, 180, 0, 167, 28, 3, 79]
abbrev dktX3_goesTo_3 : List UInt8 := dkwX3_goesTo_3 ++ dktX3_goesTo_4
def dkwX3_goesTo_2 : List UInt8 := [180, 0, 155, 28, 3, 79, 42, 180, 0, 158, 28, 3, 79, 132, 2, 1, 167, 255, 197, 3, 61, 28, 16, 12]
abbrev dktX3_goesTo_2 : List UInt8 := dkwX3_goesTo_2 ++ dktX3_goesTo_3
def dkwX3_goesTo_1 : List UInt8 := [180, 0, 137, 28, 3, 84, 42, 180, 0, 140, 28, 3, 79, 42, 180, 0, 149, 28, 16, 252, 79, 42]
abbrev dktX3_goesTo_1 : List UInt8 := dkwX3_goesTo_1 ++ dktX3_goesTo_2
def dkwX3_goesTo_0 : List UInt8 := [3, 61, 28, 16, 8, 162, 0, 59, 42, 180, 0, 131, 28, 3, 84, 42, 180, 0, 134, 28, 3, 84, 42]
abbrev dktX3_goesTo_0 : List UInt8 := dkwX3_goesTo_0 ++ dktX3_goesTo_1
theorem dksX3_goesTo_0 : cX3_goesTo.data.toList.drop 0 = dktX3_goesTo_0 := by decide +kernel
theorem dksX3_goesTo_1 : cX3_goesTo.data.toList.drop 23 = dktX3_goesTo_1 := dk_seg dksX3_goesTo_0 23 rfl rfl
theorem dksX3_goesTo_2 : cX3_goesTo.data.toList.drop 45 = dktX3_goesTo_2 := dk_seg dksX3_goesTo_1 22 rfl rfl
theorem dksX3_goesTo_3 : cX3_goesTo.data.toList.drop 69 = dktX3_goesTo_3 := dk_seg dksX3_goesTo_2 24 rfl rfl
theorem dksX3_goesTo_4 : cX3_goesTo.data.toList.drop 93 = dktX3_goesTo_4 := dk_seg dksX3_goesTo_3 24 rfl rfl
theorem dksX3_goesTo_5 : cX3_goesTo.data.toList.drop 117 = dktX3_goesTo_5 := dk_seg dksX3_goesTo_4 24 rfl rfl
theorem dX3_goesTo_0 : decode cX3_goesTo 0 = .ok (.iconst 0, 1) := dk_3 (dk_at dksX3_goesTo_0 0 rfl rfl)
theorem dX3_goesTo_1 : decode cX3_goesTo 1 = .ok (.istore_n 2, 1) := dk_61 (dk_at dksX3_goesTo_0 1 rfl rfl)
theorem dX3_goesTo_2 : decode cX3_goesTo 2 = .ok (.iload_n 2, 1) := dk_28 (dk_at dksX3_goesTo_0 2 rfl rfl)
theorem dX3_goesTo_3 : decode cX3_goesTo 3 = .ok (.bipush 8, 2) := dk_16 8 (dk_at dksX3_goesTo_0 3 rfl rfl)
theorem dX3_goesTo_5 : decode cX3_goesTo 5 = .ok (.if_icmp .ge 59, 3) := dk_162 0 59 (dk_at dksX3_goesTo_0 5 rfl rfl)
theorem dX3_goesTo_8 : decode cX3_goesTo 8 = .ok (.aload_n 0, 1) := dk_42 (dk_at dksX3_goesTo_0 8 rfl rfl)
theorem dX3_goesTo_9 : decode cX3_goesTo 9 = .ok (.getfield 131, 3) := dk_180 0 131 (dk_at dksX3_goesTo_0 9 rfl rfl)
theorem dX3_goesTo_12 : decode cX3_goesTo 12 = .ok (.iload_n 2, 1) := dk_28 (dk_at dksX3_goesTo_0 12 rfl rfl)
theorem dX3_goesTo_13 : decode cX3_goesTo 13 = .ok (.iconst 0, 1) := dk_3 (dk_at dksX3_goesTo_0 13 rfl rfl)
theorem dX3_goesTo_14 : decode cX3_goesTo 14 = .ok (.bastore, 1) := dk_84 (dk_at dksX3_goesTo_0 14 rfl rfl)
theorem dX3_goesTo_15 : decode cX3_goesTo 15 = .ok (.aload_n 0, 1) := dk_42 (dk_at dksX3_goesTo_0 15 rfl rfl)
theorem dX3_goesTo_16 : decode cX3_goesTo 16 = .ok (.getfield 134, 3) := dk_180 0 134 (dk_at dksX3_goesTo_0 16 rfl rfl)
theorem dX3_goesTo_19 : decode cX3_goesTo 19 = .ok (.iload_n 2, 1) := dk_28 (dk_at dksX3_goesTo_0 19 rfl rfl)
theorem dX3_goesTo_20 : decode cX3_goesTo 20 = .ok (.iconst 0, 1) := dk_3 (dk_at dksX3_goesTo_0 20 rfl rfl)
theorem dX3_goesTo_21 : decode cX3_goesTo 21 = .ok (.bastore, 1) := dk_84 (dk_at dksX3_goesTo_0 21 rfl rfl)
theorem dX3_goesTo_22 : decode cX3_goesTo 22 = .ok (.aload_n 0, 1) := dk_42 (dk_at dksX3_goesTo_0 22 rfl rfl)
theorem dX3_goesTo_23 : decode cX3_goesTo 23 = .ok (.getfield 137, 3) := dk_180 0 137 (dk_at dksX3_goesTo_1 0 rfl rfl)
theorem dX3_goesTo_26 : decode cX3_goesTo 26 = .ok (.iload_n 2, 1) := dk_28 (dk_at dksX3_goesTo_1 3 rfl rfl)
theorem dX3_goesTo_27 : decode cX3_goesTo 27 = .ok (.iconst 0, 1) := dk_3 (dk_at dksX3_goesTo_1 4 rfl rfl)
theorem dX3_goesTo_28 : decode cX3_goesTo 28 = .ok (.bastore, 1) := dk_84 (dk_at dksX3_goesTo_1 5 rfl rfl)
theorem dX3_goesTo_29 : decode cX3_goesTo 29 = .ok (.aload_n 0, 1) := dk_42 (dk_at dksX3_goesTo_1 6 rfl rfl)
theorem dX3_goesTo_30 : decode cX3_goesTo 30 = .ok (.getfield 140, 3) := dk_180 0 140 (dk_at dksX3_goesTo_1 7 rfl rfl)
theorem dX3_goesTo_33 : decode cX3_goesTo 33 = .ok (.iload_n 2, 1) := dk_28 (dk_at dksX3_goesTo_1 10 rfl rfl)
theorem dX3_goesTo_34 : decode cX3_goesTo 34 = .ok (.iconst 0, 1) := dk_3 (dk_at dksX3_goesTo_1 11 rfl rfl)
theorem dX3_goesTo_35 : decode cX3_goesTo 35 = .ok (.iastore, 1) := dk_79 (dk_at dksX3_goesTo_1 12 rfl rfl)
theorem dX3_goesTo_36 : decode cX3_goesTo 36 = .ok (.aload_n 0, 1) := dk_42 (dk_at dksX3_goesTo_1 13 rfl rfl)
theorem dX3_goesTo_37 : decode cX3_goesTo 37 = .ok (.getfield 149, 3) := dk_180 0 149 (dk_at dksX3_goesTo_1 14 rfl rfl)
theorem dX3_goesTo_40 : decode cX3_goesTo 40 = .ok (.iload_n 2, 1) := dk_28 (dk_at dksX3_goesTo_1 17 rfl rfl)
theorem dX3_goesTo_41 : decode cX3_goesTo 41 = .ok (.bipush (-4), 2) := dk_16 252 (dk_at dksX3_goesTo_1 18 rfl rfl)
theorem dX3_goesTo_43 : decode cX3_goesTo 43 = .ok (.iastore, 1) := dk_79 (dk_at dksX3_goesTo_1 20 rfl rfl)
theorem dX3_goesTo_44 : decode cX3_goesTo 44 = .ok (.aload_n 0, 1) := dk_42 (dk_at dksX3_goesTo_1 21 rfl rfl)
theorem dX3_goesTo_45 : decode cX3_goesTo 45 = .ok (.getfield 155, 3) := dk_180 0 155 (dk_at dksX3_goesTo_2 0 rfl rfl)
theorem dX3_goesTo_48 : decode cX3_goesTo 48 = .ok (.iload_n 2, 1) := dk_28 (dk_at dksX3_goesTo_2 3 rfl rfl)
theorem dX3_goesTo_49 : decode cX3_goesTo 49 = .ok (.iconst 0, 1) := dk_3 (dk_at dksX3_goesTo_2 4 rfl rfl)
theorem dX3_goesTo_50 : decode cX3_goesTo 50 = .ok (.iastore, 1) := dk_79 (dk_at dksX3_goesTo_2 5 rfl rfl)
theorem dX3_goesTo_51 : decode cX3_goesTo 51 = .ok (.aload_n 0, 1) := dk_42 (dk_at dksX3_goesTo_2 6 rfl rfl)
theorem dX3_goesTo_52 : decode cX3_goesTo 52 = .ok (.getfield 158, 3) := dk_180 0 158 (dk_at dksX3_goesTo_2 7 rfl rfl)
theorem dX3_goesTo_55 : decode cX3_goesTo 55 = .ok (.iload_n 2, 1) := dk_28 (dk_at dksX3_goesTo_2 10 rfl rfl)
theorem dX3_goesTo_56 : decode cX3_goesTo 56 = .ok (.iconst 0, 1) := dk_3 (dk_at dksX3_goesTo_2 11 rfl rfl)
theorem dX3_goesTo_57 : decode cX3_goesTo 57 = .ok (.iastore, 1) := dk_79 (dk_at dksX3_goesTo_2 12 rfl rfl)
theorem dX3_goesTo_58 : decode cX3_goesTo 58 = .ok (.iinc 2 1, 3) := dk_132 2 1 (dk_at dksX3_goesTo_2 13 rfl rfl)
theorem dX3_goesTo_61 : decode cX3_goesTo 61 = .ok (.goto (-59), 3) := dk_167 255 197 (dk_at dksX3_goesTo_2 16 rfl rfl)
theorem dX3_goesTo_64 : decode cX3_goesTo 64 = .ok (.iconst 0, 1) := dk_3 (dk_at dksX3_goesTo_2 19 rfl rfl)
theorem dX3_goesTo_65 : decode cX3_goesTo 65 = .ok (.istore_n 2, 1) := dk_61 (dk_at dksX3_goesTo_2 20 rfl rfl)
theorem dX3_goesTo_66 : decode cX3_goesTo 66 = .ok (.iload_n 2, 1) := dk_28 (dk_at dksX3_goesTo_2 21 rfl rfl)
theorem dX3_goesTo_67 : decode cX3_goesTo 67 = .ok (.bipush 12, 2) := dk_16 12 (dk_at dksX3_goesTo_2 22 rfl rfl)
theorem dX3_goesTo_69 : decode cX3_goesTo 69 = .ok (.if_icmp .ge 30, 3) := dk_162 0 30 (dk_at dksX3_goesTo_3 0 rfl rfl)
theorem dX3_goesTo_72 : decode cX3_goesTo 72 = .ok (.aload_n 0, 1) := dk_42 (dk_at dksX3_goesTo_3 3 rfl rfl)
theorem dX3_goesTo_73 : decode cX3_goesTo 73 = .ok (.getfield 161, 3) := dk_180 0 161 (dk_at dksX3_goesTo_3 4 rfl rfl)
theorem dX3_goesTo_76 : decode cX3_goesTo 76 = .ok (.iload_n 2, 1) := dk_28 (dk_at dksX3_goesTo_3 7 rfl rfl)
theorem dX3_goesTo_77 : decode cX3_goesTo 77 = .ok (.iconst 0, 1) := dk_3 (dk_at dksX3_goesTo_3 8 rfl rfl)
theorem dX3_goesTo_78 : decode cX3_goesTo 78 = .ok (.iastore, 1) := dk_79 (dk_at dksX3_goesTo_3 9 rfl rfl)
theorem dX3_goesTo_79 : decode cX3_goesTo 79 = .ok (.aload_n 0, 1) := dk_42 (dk_at dksX3_goesTo_3 10 rfl rfl)
theorem dX3_goesTo_80 : decode cX3_goesTo 80 = .ok (.getfield 164, 3) := dk_180 0 164 (dk_at dksX3_goesTo_3 11 rfl rfl)
theorem dX3_goesTo_83 : decode cX3_goesTo 83 = .ok (.iload_n 2, 1) := dk_28 (dk_at dksX3_goesTo_3 14 rfl rfl)
theorem dX3_goesTo_84 : decode cX3_goesTo 84 = .ok (.iconst 0, 1) := dk_3 (dk_at dksX3_goesTo_3 15 rfl rfl)
theorem dX3_goesTo_85 : decode cX3_goesTo 85 = .ok (.iastore, 1) := dk_79 (dk_at dksX3_goesTo_3 16 rfl rfl)
theorem dX3_goesTo_86 : decode cX3_goesTo 86 = .ok (.aload_n 0, 1) := dk_42 (dk_at dksX3_goesTo_3 17 rfl rfl)
theorem dX3_goesTo_87 : decode cX3_goesTo 87 = .ok (.getfield 167, 3) := dk_180 0 167 (dk_at dksX3_goesTo_3 18 rfl rfl)
theorem dX3_goesTo_90 : decode cX3_goesTo 90 = .ok (.iload_n 2, 1) := dk_28 (dk_at dksX3_goesTo_3 21 rfl rfl)
theorem dX3_goesTo_91 : decode cX3_goesTo 91 = .ok (.iconst 0, 1) := dk_3 (dk_at dksX3_goesTo_3 22 rfl rfl)
theorem dX3_goesTo_92 : decode cX3_goesTo 92 = .ok (.iastore, 1) := dk_79 (dk_at dksX3_goesTo_3 23 rfl rfl)
theorem dX3_goesTo_93 : decode cX3_goesTo 93 = .ok (.iinc 2 1, 3) := dk_132 2 1 (dk_at dksX3_goesTo_4 0 rfl rfl)
theorem dX3_goesTo_96 : decode cX3_goesTo 96 = .ok (.goto (-30), 3) := dk_167 255 226 (dk_at dksX3_goesTo_4 3 rfl rfl)
theorem dX3_goesTo_99 : decode cX3_goesTo 99 = .ok (.iconst 0, 1) := dk_3 (dk_at dksX3_goesTo_4 6 rfl rfl)
theorem dX3_goesTo_100 : decode cX3_goesTo 100 = .ok (.istore_n 2, 1) := dk_61 (dk_at dksX3_goesTo_4 7 rfl rfl)
theorem dX3_goesTo_101 : decode cX3_goesTo 101 = .ok (.iload_n 2, 1) := dk_28 (dk_at dksX3_goesTo_4 8 rfl rfl)
theorem dX3_goesTo_102 : decode cX3_goesTo 102 = .ok (.iload_n 1, 1) := dk_27 (dk_at dksX3_goesTo_4 9 rfl rfl)
theorem dX3_goesTo_103 : decode cX3_goesTo 103 = .ok (.if_icmp .gt 14, 3) := dk_163 0 14 (dk_at dksX3_goesTo_4 10 rfl rfl)
theorem dX3_goesTo_106 : decode cX3_goesTo 106 = .ok (.aload_n 0, 1) := dk_42 (dk_at dksX3_goesTo_4 13 rfl rfl)
theorem dX3_goesTo_107 : decode cX3_goesTo 107 = .ok (.iload_n 2, 1) := dk_28 (dk_at dksX3_goesTo_4 14 rfl rfl)
theorem dX3_goesTo_108 : decode cX3_goesTo 108 = .ok (.invokevirtual 469, 3) := dk_182 1 213 (dk_at dksX3_goesTo_4 15 rfl rfl)
theorem dX3_goesTo_111 : decode cX3_goesTo 111 = .ok (.iinc 2 1, 3) := dk_132 2 1 (dk_at dksX3_goesTo_4 18 rfl rfl)
theorem dX3_goesTo_114 : decode cX3_goesTo 114 = .ok (.goto (-13), 3) := dk_167 255 243 (dk_at dksX3_goesTo_4 21 rfl rfl)
theorem dX3_goesTo_117 : decode cX3_goesTo 117 = .ok (.return_, 1) := dk_177 (dk_at dksX3_goesTo_5 0 rfl rfl)
abbrev cX3_quarter : ByteArray := prog_26_method_86_code
def yX3_quarter : MethodName := ⟨RX3, "quarter", "(I)V"⟩
def dkwX3_quarter_11 : List UInt8 := [42, 180, 0, 170, 29, 4, 84, 42, 29, 27, 182, 1, 210, 167, 255, 119, 177]
abbrev dktX3_quarter_11 : List UInt8 := dkwX3_quarter_11 ++ []
def dkwX3_quarter_10 : List UInt8 := [29, 62, 132, 4, 1, 167, 255, 161, 29, 16, 252, 159, 0, 7, 4, 167, 0, 4, 3, 61, 28, 153, 0, 16]
abbrev dktX3_quarter_10 : List UInt8 := dkwX3_quarter_10 ++ dktX3_quarter_11
def dkwX3_quarter_9 : List UInt8 := [159, 0, 19, 42, 180, 0, 146, 21, 4, 46, 42, 180, 0, 146, 29, 46, 162, 0, 8, 21, 4, 167, 0, 4]
abbrev dktX3_quarter_9 : List UInt8 := dkwX3_quarter_9 ++ dktX3_quarter_10
def dkwX3_quarter_8 : List UInt8 := [180, 0, 170, 21, 4, 51, 154, 0, 7, 4, 167, 0, 4, 3, 54, 5, 21, 5, 153, 0, 30, 29, 16, 252]
abbrev dktX3_quarter_8 : List UInt8 := dkwX3_quarter_8 ++ dktX3_quarter_9
def dkwX3_quarter_7 : List UInt8 := [180, 0, 149, 21, 4, 46, 16, 252, 160, 0, 27, 42, 180, 0, 134, 21, 4, 51, 154, 0, 17, 42]
abbrev dktX3_quarter_7 : List UInt8 := dkwX3_quarter_7 ++ dktX3_quarter_8
def dkwX3_quarter_6 : List UInt8 := [3, 54, 4, 21, 4, 42, 180, 1, 193, 162, 0, 92, 42, 180, 0, 131, 21, 4, 51, 153, 0, 39, 42]
abbrev dktX3_quarter_6 : List UInt8 := dkwX3_quarter_6 ++ dktX3_quarter_7
def dkwX3_quarter_5 : List UInt8 := [180, 0, 16, 29, 46, 27, 182, 1, 207, 132, 2, 1, 167, 255, 129, 4, 61, 28, 153, 0, 139, 16, 252, 62]
abbrev dktX3_quarter_5 : List UInt8 := dkwX3_quarter_5 ++ dktX3_quarter_6
def dkwX3_quarter_4 : List UInt8 := [46, 42, 180, 0, 140, 28, 46, 182, 0, 237, 62, 42, 180, 0, 140, 28, 92, 46, 4, 96, 79, 42, 28, 42]
abbrev dktX3_quarter_4 : List UInt8 := dkwX3_quarter_4 ++ dktX3_quarter_5
def dkwX3_quarter_3 : List UInt8 := [180, 0, 131, 28, 51, 153, 0, 52, 42, 180, 0, 149, 28, 46, 27, 160, 0, 42, 42, 42, 180, 0, 119, 28]
abbrev dktX3_quarter_3 : List UInt8 := dkwX3_quarter_3 ++ dktX3_quarter_4
def dkwX3_quarter_2 : List UInt8 := [180, 0, 13, 42, 42, 180, 0, 119, 28, 46, 3, 182, 0, 237, 46, 27, 182, 1, 207, 167, 0, 61, 42]
abbrev dktX3_quarter_2 : List UInt8 := dkwX3_quarter_2 ++ dktX3_quarter_3
def dkwX3_quarter_1 : List UInt8 := [154, 0, 45, 42, 180, 0, 125, 28, 46, 27, 160, 0, 35, 42, 180, 0, 131, 28, 4, 84, 42, 28, 42]
abbrev dktX3_quarter_1 : List UInt8 := dkwX3_quarter_1 ++ dktX3_quarter_2
def dkwX3_quarter_0 : List UInt8 := [3, 61, 28, 42, 180, 1, 193, 162, 0, 125, 42, 180, 0, 170, 28, 3, 84, 42, 180, 0, 131, 28, 51]
abbrev dktX3_quarter_0 : List UInt8 := dkwX3_quarter_0 ++ dktX3_quarter_1
theorem dksX3_quarter_0 : cX3_quarter.data.toList.drop 0 = dktX3_quarter_0 := by decide +kernel
theorem dksX3_quarter_1 : cX3_quarter.data.toList.drop 23 = dktX3_quarter_1 := dk_seg dksX3_quarter_0 23 rfl rfl
theorem dksX3_quarter_2 : cX3_quarter.data.toList.drop 46 = dktX3_quarter_2 := dk_seg dksX3_quarter_1 23 rfl rfl
theorem dksX3_quarter_3 : cX3_quarter.data.toList.drop 69 = dktX3_quarter_3 := dk_seg dksX3_quarter_2 23 rfl rfl
theorem dksX3_quarter_4 : cX3_quarter.data.toList.drop 93 = dktX3_quarter_4 := dk_seg dksX3_quarter_3 24 rfl rfl
theorem dksX3_quarter_5 : cX3_quarter.data.toList.drop 117 = dktX3_quarter_5 := dk_seg dksX3_quarter_4 24 rfl rfl
theorem dksX3_quarter_6 : cX3_quarter.data.toList.drop 141 = dktX3_quarter_6 := dk_seg dksX3_quarter_5 24 rfl rfl
theorem dksX3_quarter_7 : cX3_quarter.data.toList.drop 164 = dktX3_quarter_7 := dk_seg dksX3_quarter_6 23 rfl rfl
theorem dksX3_quarter_8 : cX3_quarter.data.toList.drop 186 = dktX3_quarter_8 := dk_seg dksX3_quarter_7 22 rfl rfl
theorem dksX3_quarter_9 : cX3_quarter.data.toList.drop 210 = dktX3_quarter_9 := dk_seg dksX3_quarter_8 24 rfl rfl
theorem dksX3_quarter_10 : cX3_quarter.data.toList.drop 234 = dktX3_quarter_10 := dk_seg dksX3_quarter_9 24 rfl rfl
theorem dksX3_quarter_11 : cX3_quarter.data.toList.drop 258 = dktX3_quarter_11 := dk_seg dksX3_quarter_10 24 rfl rfl
theorem dX3_quarter_0 : decode cX3_quarter 0 = .ok (.iconst 0, 1) := dk_3 (dk_at dksX3_quarter_0 0 rfl rfl)
theorem dX3_quarter_1 : decode cX3_quarter 1 = .ok (.istore_n 2, 1) := dk_61 (dk_at dksX3_quarter_0 1 rfl rfl)
theorem dX3_quarter_2 : decode cX3_quarter 2 = .ok (.iload_n 2, 1) := dk_28 (dk_at dksX3_quarter_0 2 rfl rfl)
theorem dX3_quarter_3 : decode cX3_quarter 3 = .ok (.aload_n 0, 1) := dk_42 (dk_at dksX3_quarter_0 3 rfl rfl)
theorem dX3_quarter_4 : decode cX3_quarter 4 = .ok (.getfield 449, 3) := dk_180 1 193 (dk_at dksX3_quarter_0 4 rfl rfl)
theorem dX3_quarter_7 : decode cX3_quarter 7 = .ok (.if_icmp .ge 125, 3) := dk_162 0 125 (dk_at dksX3_quarter_0 7 rfl rfl)
theorem dX3_quarter_10 : decode cX3_quarter 10 = .ok (.aload_n 0, 1) := dk_42 (dk_at dksX3_quarter_0 10 rfl rfl)
theorem dX3_quarter_11 : decode cX3_quarter 11 = .ok (.getfield 170, 3) := dk_180 0 170 (dk_at dksX3_quarter_0 11 rfl rfl)
theorem dX3_quarter_14 : decode cX3_quarter 14 = .ok (.iload_n 2, 1) := dk_28 (dk_at dksX3_quarter_0 14 rfl rfl)
theorem dX3_quarter_15 : decode cX3_quarter 15 = .ok (.iconst 0, 1) := dk_3 (dk_at dksX3_quarter_0 15 rfl rfl)
theorem dX3_quarter_16 : decode cX3_quarter 16 = .ok (.bastore, 1) := dk_84 (dk_at dksX3_quarter_0 16 rfl rfl)
theorem dX3_quarter_17 : decode cX3_quarter 17 = .ok (.aload_n 0, 1) := dk_42 (dk_at dksX3_quarter_0 17 rfl rfl)
theorem dX3_quarter_18 : decode cX3_quarter 18 = .ok (.getfield 131, 3) := dk_180 0 131 (dk_at dksX3_quarter_0 18 rfl rfl)
theorem dX3_quarter_21 : decode cX3_quarter 21 = .ok (.iload_n 2, 1) := dk_28 (dk_at dksX3_quarter_0 21 rfl rfl)
theorem dX3_quarter_22 : decode cX3_quarter 22 = .ok (.baload, 1) := dk_51 (dk_at dksX3_quarter_0 22 rfl rfl)
theorem dX3_quarter_23 : decode cX3_quarter 23 = .ok (.ifCond .ne 45, 3) := dk_154 0 45 (dk_at dksX3_quarter_1 0 rfl rfl)
theorem dX3_quarter_26 : decode cX3_quarter 26 = .ok (.aload_n 0, 1) := dk_42 (dk_at dksX3_quarter_1 3 rfl rfl)
theorem dX3_quarter_27 : decode cX3_quarter 27 = .ok (.getfield 125, 3) := dk_180 0 125 (dk_at dksX3_quarter_1 4 rfl rfl)
theorem dX3_quarter_30 : decode cX3_quarter 30 = .ok (.iload_n 2, 1) := dk_28 (dk_at dksX3_quarter_1 7 rfl rfl)
theorem dX3_quarter_31 : decode cX3_quarter 31 = .ok (.iaload, 1) := dk_46 (dk_at dksX3_quarter_1 8 rfl rfl)
theorem dX3_quarter_32 : decode cX3_quarter 32 = .ok (.iload_n 1, 1) := dk_27 (dk_at dksX3_quarter_1 9 rfl rfl)
theorem dX3_quarter_33 : decode cX3_quarter 33 = .ok (.if_icmp .ne 35, 3) := dk_160 0 35 (dk_at dksX3_quarter_1 10 rfl rfl)
theorem dX3_quarter_36 : decode cX3_quarter 36 = .ok (.aload_n 0, 1) := dk_42 (dk_at dksX3_quarter_1 13 rfl rfl)
theorem dX3_quarter_37 : decode cX3_quarter 37 = .ok (.getfield 131, 3) := dk_180 0 131 (dk_at dksX3_quarter_1 14 rfl rfl)
theorem dX3_quarter_40 : decode cX3_quarter 40 = .ok (.iload_n 2, 1) := dk_28 (dk_at dksX3_quarter_1 17 rfl rfl)
theorem dX3_quarter_41 : decode cX3_quarter 41 = .ok (.iconst 1, 1) := dk_4 (dk_at dksX3_quarter_1 18 rfl rfl)
theorem dX3_quarter_42 : decode cX3_quarter 42 = .ok (.bastore, 1) := dk_84 (dk_at dksX3_quarter_1 19 rfl rfl)
theorem dX3_quarter_43 : decode cX3_quarter 43 = .ok (.aload_n 0, 1) := dk_42 (dk_at dksX3_quarter_1 20 rfl rfl)
theorem dX3_quarter_44 : decode cX3_quarter 44 = .ok (.iload_n 2, 1) := dk_28 (dk_at dksX3_quarter_1 21 rfl rfl)
theorem dX3_quarter_45 : decode cX3_quarter 45 = .ok (.aload_n 0, 1) := dk_42 (dk_at dksX3_quarter_1 22 rfl rfl)
theorem dX3_quarter_46 : decode cX3_quarter 46 = .ok (.getfield 13, 3) := dk_180 0 13 (dk_at dksX3_quarter_2 0 rfl rfl)
theorem dX3_quarter_49 : decode cX3_quarter 49 = .ok (.aload_n 0, 1) := dk_42 (dk_at dksX3_quarter_2 3 rfl rfl)
theorem dX3_quarter_50 : decode cX3_quarter 50 = .ok (.aload_n 0, 1) := dk_42 (dk_at dksX3_quarter_2 4 rfl rfl)
theorem dX3_quarter_51 : decode cX3_quarter 51 = .ok (.getfield 119, 3) := dk_180 0 119 (dk_at dksX3_quarter_2 5 rfl rfl)
theorem dX3_quarter_54 : decode cX3_quarter 54 = .ok (.iload_n 2, 1) := dk_28 (dk_at dksX3_quarter_2 8 rfl rfl)
theorem dX3_quarter_55 : decode cX3_quarter 55 = .ok (.iaload, 1) := dk_46 (dk_at dksX3_quarter_2 9 rfl rfl)
theorem dX3_quarter_56 : decode cX3_quarter 56 = .ok (.iconst 0, 1) := dk_3 (dk_at dksX3_quarter_2 10 rfl rfl)
theorem dX3_quarter_57 : decode cX3_quarter 57 = .ok (.invokevirtual 237, 3) := dk_182 0 237 (dk_at dksX3_quarter_2 11 rfl rfl)
theorem dX3_quarter_60 : decode cX3_quarter 60 = .ok (.iaload, 1) := dk_46 (dk_at dksX3_quarter_2 14 rfl rfl)
theorem dX3_quarter_61 : decode cX3_quarter 61 = .ok (.iload_n 1, 1) := dk_27 (dk_at dksX3_quarter_2 15 rfl rfl)
theorem dX3_quarter_62 : decode cX3_quarter 62 = .ok (.invokevirtual 463, 3) := dk_182 1 207 (dk_at dksX3_quarter_2 16 rfl rfl)
theorem dX3_quarter_65 : decode cX3_quarter 65 = .ok (.goto 61, 3) := dk_167 0 61 (dk_at dksX3_quarter_2 19 rfl rfl)
theorem dX3_quarter_68 : decode cX3_quarter 68 = .ok (.aload_n 0, 1) := dk_42 (dk_at dksX3_quarter_2 22 rfl rfl)
theorem dX3_quarter_69 : decode cX3_quarter 69 = .ok (.getfield 131, 3) := dk_180 0 131 (dk_at dksX3_quarter_3 0 rfl rfl)
theorem dX3_quarter_72 : decode cX3_quarter 72 = .ok (.iload_n 2, 1) := dk_28 (dk_at dksX3_quarter_3 3 rfl rfl)
theorem dX3_quarter_73 : decode cX3_quarter 73 = .ok (.baload, 1) := dk_51 (dk_at dksX3_quarter_3 4 rfl rfl)
theorem dX3_quarter_74 : decode cX3_quarter 74 = .ok (.ifCond .eq 52, 3) := dk_153 0 52 (dk_at dksX3_quarter_3 5 rfl rfl)
theorem dX3_quarter_77 : decode cX3_quarter 77 = .ok (.aload_n 0, 1) := dk_42 (dk_at dksX3_quarter_3 8 rfl rfl)
theorem dX3_quarter_78 : decode cX3_quarter 78 = .ok (.getfield 149, 3) := dk_180 0 149 (dk_at dksX3_quarter_3 9 rfl rfl)
theorem dX3_quarter_81 : decode cX3_quarter 81 = .ok (.iload_n 2, 1) := dk_28 (dk_at dksX3_quarter_3 12 rfl rfl)
theorem dX3_quarter_82 : decode cX3_quarter 82 = .ok (.iaload, 1) := dk_46 (dk_at dksX3_quarter_3 13 rfl rfl)
theorem dX3_quarter_83 : decode cX3_quarter 83 = .ok (.iload_n 1, 1) := dk_27 (dk_at dksX3_quarter_3 14 rfl rfl)
theorem dX3_quarter_84 : decode cX3_quarter 84 = .ok (.if_icmp .ne 42, 3) := dk_160 0 42 (dk_at dksX3_quarter_3 15 rfl rfl)
theorem dX3_quarter_87 : decode cX3_quarter 87 = .ok (.aload_n 0, 1) := dk_42 (dk_at dksX3_quarter_3 18 rfl rfl)
theorem dX3_quarter_88 : decode cX3_quarter 88 = .ok (.aload_n 0, 1) := dk_42 (dk_at dksX3_quarter_3 19 rfl rfl)
theorem dX3_quarter_89 : decode cX3_quarter 89 = .ok (.getfield 119, 3) := dk_180 0 119 (dk_at dksX3_quarter_3 20 rfl rfl)
theorem dX3_quarter_92 : decode cX3_quarter 92 = .ok (.iload_n 2, 1) := dk_28 (dk_at dksX3_quarter_3 23 rfl rfl)
theorem dX3_quarter_93 : decode cX3_quarter 93 = .ok (.iaload, 1) := dk_46 (dk_at dksX3_quarter_4 0 rfl rfl)
theorem dX3_quarter_94 : decode cX3_quarter 94 = .ok (.aload_n 0, 1) := dk_42 (dk_at dksX3_quarter_4 1 rfl rfl)
theorem dX3_quarter_95 : decode cX3_quarter 95 = .ok (.getfield 140, 3) := dk_180 0 140 (dk_at dksX3_quarter_4 2 rfl rfl)
theorem dX3_quarter_98 : decode cX3_quarter 98 = .ok (.iload_n 2, 1) := dk_28 (dk_at dksX3_quarter_4 5 rfl rfl)
theorem dX3_quarter_99 : decode cX3_quarter 99 = .ok (.iaload, 1) := dk_46 (dk_at dksX3_quarter_4 6 rfl rfl)
theorem dX3_quarter_100 : decode cX3_quarter 100 = .ok (.invokevirtual 237, 3) := dk_182 0 237 (dk_at dksX3_quarter_4 7 rfl rfl)
theorem dX3_quarter_103 : decode cX3_quarter 103 = .ok (.istore_n 3, 1) := dk_62 (dk_at dksX3_quarter_4 10 rfl rfl)
theorem dX3_quarter_104 : decode cX3_quarter 104 = .ok (.aload_n 0, 1) := dk_42 (dk_at dksX3_quarter_4 11 rfl rfl)
theorem dX3_quarter_105 : decode cX3_quarter 105 = .ok (.getfield 140, 3) := dk_180 0 140 (dk_at dksX3_quarter_4 12 rfl rfl)
theorem dX3_quarter_108 : decode cX3_quarter 108 = .ok (.iload_n 2, 1) := dk_28 (dk_at dksX3_quarter_4 15 rfl rfl)
theorem dX3_quarter_109 : decode cX3_quarter 109 = .ok (.dup2, 1) := dk_92 (dk_at dksX3_quarter_4 16 rfl rfl)
theorem dX3_quarter_110 : decode cX3_quarter 110 = .ok (.iaload, 1) := dk_46 (dk_at dksX3_quarter_4 17 rfl rfl)
theorem dX3_quarter_111 : decode cX3_quarter 111 = .ok (.iconst 1, 1) := dk_4 (dk_at dksX3_quarter_4 18 rfl rfl)
theorem dX3_quarter_112 : decode cX3_quarter 112 = .ok (.iadd, 1) := dk_96 (dk_at dksX3_quarter_4 19 rfl rfl)
theorem dX3_quarter_113 : decode cX3_quarter 113 = .ok (.iastore, 1) := dk_79 (dk_at dksX3_quarter_4 20 rfl rfl)
theorem dX3_quarter_114 : decode cX3_quarter 114 = .ok (.aload_n 0, 1) := dk_42 (dk_at dksX3_quarter_4 21 rfl rfl)
theorem dX3_quarter_115 : decode cX3_quarter 115 = .ok (.iload_n 2, 1) := dk_28 (dk_at dksX3_quarter_4 22 rfl rfl)
theorem dX3_quarter_116 : decode cX3_quarter 116 = .ok (.aload_n 0, 1) := dk_42 (dk_at dksX3_quarter_4 23 rfl rfl)
theorem dX3_quarter_117 : decode cX3_quarter 117 = .ok (.getfield 16, 3) := dk_180 0 16 (dk_at dksX3_quarter_5 0 rfl rfl)
theorem dX3_quarter_120 : decode cX3_quarter 120 = .ok (.iload_n 3, 1) := dk_29 (dk_at dksX3_quarter_5 3 rfl rfl)
theorem dX3_quarter_121 : decode cX3_quarter 121 = .ok (.iaload, 1) := dk_46 (dk_at dksX3_quarter_5 4 rfl rfl)
theorem dX3_quarter_122 : decode cX3_quarter 122 = .ok (.iload_n 1, 1) := dk_27 (dk_at dksX3_quarter_5 5 rfl rfl)
theorem dX3_quarter_123 : decode cX3_quarter 123 = .ok (.invokevirtual 463, 3) := dk_182 1 207 (dk_at dksX3_quarter_5 6 rfl rfl)
theorem dX3_quarter_126 : decode cX3_quarter 126 = .ok (.iinc 2 1, 3) := dk_132 2 1 (dk_at dksX3_quarter_5 9 rfl rfl)
theorem dX3_quarter_129 : decode cX3_quarter 129 = .ok (.goto (-127), 3) := dk_167 255 129 (dk_at dksX3_quarter_5 12 rfl rfl)
theorem dX3_quarter_132 : decode cX3_quarter 132 = .ok (.iconst 1, 1) := dk_4 (dk_at dksX3_quarter_5 15 rfl rfl)
theorem dX3_quarter_133 : decode cX3_quarter 133 = .ok (.istore_n 2, 1) := dk_61 (dk_at dksX3_quarter_5 16 rfl rfl)
theorem dX3_quarter_134 : decode cX3_quarter 134 = .ok (.iload_n 2, 1) := dk_28 (dk_at dksX3_quarter_5 17 rfl rfl)
theorem dX3_quarter_135 : decode cX3_quarter 135 = .ok (.ifCond .eq 139, 3) := dk_153 0 139 (dk_at dksX3_quarter_5 18 rfl rfl)
theorem dX3_quarter_138 : decode cX3_quarter 138 = .ok (.bipush (-4), 2) := dk_16 252 (dk_at dksX3_quarter_5 21 rfl rfl)
theorem dX3_quarter_140 : decode cX3_quarter 140 = .ok (.istore_n 3, 1) := dk_62 (dk_at dksX3_quarter_5 23 rfl rfl)
theorem dX3_quarter_141 : decode cX3_quarter 141 = .ok (.iconst 0, 1) := dk_3 (dk_at dksX3_quarter_6 0 rfl rfl)
theorem dX3_quarter_142 : decode cX3_quarter 142 = .ok (.istore 4, 2) := dk_54 4 (dk_at dksX3_quarter_6 1 rfl rfl)
theorem dX3_quarter_144 : decode cX3_quarter 144 = .ok (.iload 4, 2) := dk_21 4 (dk_at dksX3_quarter_6 3 rfl rfl)
theorem dX3_quarter_146 : decode cX3_quarter 146 = .ok (.aload_n 0, 1) := dk_42 (dk_at dksX3_quarter_6 5 rfl rfl)
theorem dX3_quarter_147 : decode cX3_quarter 147 = .ok (.getfield 449, 3) := dk_180 1 193 (dk_at dksX3_quarter_6 6 rfl rfl)
theorem dX3_quarter_150 : decode cX3_quarter 150 = .ok (.if_icmp .ge 92, 3) := dk_162 0 92 (dk_at dksX3_quarter_6 9 rfl rfl)
theorem dX3_quarter_153 : decode cX3_quarter 153 = .ok (.aload_n 0, 1) := dk_42 (dk_at dksX3_quarter_6 12 rfl rfl)
theorem dX3_quarter_154 : decode cX3_quarter 154 = .ok (.getfield 131, 3) := dk_180 0 131 (dk_at dksX3_quarter_6 13 rfl rfl)
theorem dX3_quarter_157 : decode cX3_quarter 157 = .ok (.iload 4, 2) := dk_21 4 (dk_at dksX3_quarter_6 16 rfl rfl)
theorem dX3_quarter_159 : decode cX3_quarter 159 = .ok (.baload, 1) := dk_51 (dk_at dksX3_quarter_6 18 rfl rfl)
theorem dX3_quarter_160 : decode cX3_quarter 160 = .ok (.ifCond .eq 39, 3) := dk_153 0 39 (dk_at dksX3_quarter_6 19 rfl rfl)
theorem dX3_quarter_163 : decode cX3_quarter 163 = .ok (.aload_n 0, 1) := dk_42 (dk_at dksX3_quarter_6 22 rfl rfl)
theorem dX3_quarter_164 : decode cX3_quarter 164 = .ok (.getfield 149, 3) := dk_180 0 149 (dk_at dksX3_quarter_7 0 rfl rfl)
theorem dX3_quarter_167 : decode cX3_quarter 167 = .ok (.iload 4, 2) := dk_21 4 (dk_at dksX3_quarter_7 3 rfl rfl)
theorem dX3_quarter_169 : decode cX3_quarter 169 = .ok (.iaload, 1) := dk_46 (dk_at dksX3_quarter_7 5 rfl rfl)
theorem dX3_quarter_170 : decode cX3_quarter 170 = .ok (.bipush (-4), 2) := dk_16 252 (dk_at dksX3_quarter_7 6 rfl rfl)
theorem dX3_quarter_172 : decode cX3_quarter 172 = .ok (.if_icmp .ne 27, 3) := dk_160 0 27 (dk_at dksX3_quarter_7 8 rfl rfl)
theorem dX3_quarter_175 : decode cX3_quarter 175 = .ok (.aload_n 0, 1) := dk_42 (dk_at dksX3_quarter_7 11 rfl rfl)
theorem dX3_quarter_176 : decode cX3_quarter 176 = .ok (.getfield 134, 3) := dk_180 0 134 (dk_at dksX3_quarter_7 12 rfl rfl)
theorem dX3_quarter_179 : decode cX3_quarter 179 = .ok (.iload 4, 2) := dk_21 4 (dk_at dksX3_quarter_7 15 rfl rfl)
theorem dX3_quarter_181 : decode cX3_quarter 181 = .ok (.baload, 1) := dk_51 (dk_at dksX3_quarter_7 17 rfl rfl)
theorem dX3_quarter_182 : decode cX3_quarter 182 = .ok (.ifCond .ne 17, 3) := dk_154 0 17 (dk_at dksX3_quarter_7 18 rfl rfl)
theorem dX3_quarter_185 : decode cX3_quarter 185 = .ok (.aload_n 0, 1) := dk_42 (dk_at dksX3_quarter_7 21 rfl rfl)
theorem dX3_quarter_186 : decode cX3_quarter 186 = .ok (.getfield 170, 3) := dk_180 0 170 (dk_at dksX3_quarter_8 0 rfl rfl)
theorem dX3_quarter_189 : decode cX3_quarter 189 = .ok (.iload 4, 2) := dk_21 4 (dk_at dksX3_quarter_8 3 rfl rfl)
theorem dX3_quarter_191 : decode cX3_quarter 191 = .ok (.baload, 1) := dk_51 (dk_at dksX3_quarter_8 5 rfl rfl)
theorem dX3_quarter_192 : decode cX3_quarter 192 = .ok (.ifCond .ne 7, 3) := dk_154 0 7 (dk_at dksX3_quarter_8 6 rfl rfl)
theorem dX3_quarter_195 : decode cX3_quarter 195 = .ok (.iconst 1, 1) := dk_4 (dk_at dksX3_quarter_8 9 rfl rfl)
theorem dX3_quarter_196 : decode cX3_quarter 196 = .ok (.goto 4, 3) := dk_167 0 4 (dk_at dksX3_quarter_8 10 rfl rfl)
theorem dX3_quarter_199 : decode cX3_quarter 199 = .ok (.iconst 0, 1) := dk_3 (dk_at dksX3_quarter_8 13 rfl rfl)
theorem dX3_quarter_200 : decode cX3_quarter 200 = .ok (.istore 5, 2) := dk_54 5 (dk_at dksX3_quarter_8 14 rfl rfl)
theorem dX3_quarter_202 : decode cX3_quarter 202 = .ok (.iload 5, 2) := dk_21 5 (dk_at dksX3_quarter_8 16 rfl rfl)
theorem dX3_quarter_204 : decode cX3_quarter 204 = .ok (.ifCond .eq 30, 3) := dk_153 0 30 (dk_at dksX3_quarter_8 18 rfl rfl)
theorem dX3_quarter_207 : decode cX3_quarter 207 = .ok (.iload_n 3, 1) := dk_29 (dk_at dksX3_quarter_8 21 rfl rfl)
theorem dX3_quarter_208 : decode cX3_quarter 208 = .ok (.bipush (-4), 2) := dk_16 252 (dk_at dksX3_quarter_8 22 rfl rfl)
theorem dX3_quarter_210 : decode cX3_quarter 210 = .ok (.if_icmp .eq 19, 3) := dk_159 0 19 (dk_at dksX3_quarter_9 0 rfl rfl)
theorem dX3_quarter_213 : decode cX3_quarter 213 = .ok (.aload_n 0, 1) := dk_42 (dk_at dksX3_quarter_9 3 rfl rfl)
theorem dX3_quarter_214 : decode cX3_quarter 214 = .ok (.getfield 146, 3) := dk_180 0 146 (dk_at dksX3_quarter_9 4 rfl rfl)
theorem dX3_quarter_217 : decode cX3_quarter 217 = .ok (.iload 4, 2) := dk_21 4 (dk_at dksX3_quarter_9 7 rfl rfl)
theorem dX3_quarter_219 : decode cX3_quarter 219 = .ok (.iaload, 1) := dk_46 (dk_at dksX3_quarter_9 9 rfl rfl)
theorem dX3_quarter_220 : decode cX3_quarter 220 = .ok (.aload_n 0, 1) := dk_42 (dk_at dksX3_quarter_9 10 rfl rfl)
theorem dX3_quarter_221 : decode cX3_quarter 221 = .ok (.getfield 146, 3) := dk_180 0 146 (dk_at dksX3_quarter_9 11 rfl rfl)
theorem dX3_quarter_224 : decode cX3_quarter 224 = .ok (.iload_n 3, 1) := dk_29 (dk_at dksX3_quarter_9 14 rfl rfl)
theorem dX3_quarter_225 : decode cX3_quarter 225 = .ok (.iaload, 1) := dk_46 (dk_at dksX3_quarter_9 15 rfl rfl)
theorem dX3_quarter_226 : decode cX3_quarter 226 = .ok (.if_icmp .ge 8, 3) := dk_162 0 8 (dk_at dksX3_quarter_9 16 rfl rfl)
theorem dX3_quarter_229 : decode cX3_quarter 229 = .ok (.iload 4, 2) := dk_21 4 (dk_at dksX3_quarter_9 19 rfl rfl)
theorem dX3_quarter_231 : decode cX3_quarter 231 = .ok (.goto 4, 3) := dk_167 0 4 (dk_at dksX3_quarter_9 21 rfl rfl)
theorem dX3_quarter_234 : decode cX3_quarter 234 = .ok (.iload_n 3, 1) := dk_29 (dk_at dksX3_quarter_10 0 rfl rfl)
theorem dX3_quarter_235 : decode cX3_quarter 235 = .ok (.istore_n 3, 1) := dk_62 (dk_at dksX3_quarter_10 1 rfl rfl)
theorem dX3_quarter_236 : decode cX3_quarter 236 = .ok (.iinc 4 1, 3) := dk_132 4 1 (dk_at dksX3_quarter_10 2 rfl rfl)
theorem dX3_quarter_239 : decode cX3_quarter 239 = .ok (.goto (-95), 3) := dk_167 255 161 (dk_at dksX3_quarter_10 5 rfl rfl)
theorem dX3_quarter_242 : decode cX3_quarter 242 = .ok (.iload_n 3, 1) := dk_29 (dk_at dksX3_quarter_10 8 rfl rfl)
theorem dX3_quarter_243 : decode cX3_quarter 243 = .ok (.bipush (-4), 2) := dk_16 252 (dk_at dksX3_quarter_10 9 rfl rfl)
theorem dX3_quarter_245 : decode cX3_quarter 245 = .ok (.if_icmp .eq 7, 3) := dk_159 0 7 (dk_at dksX3_quarter_10 11 rfl rfl)
theorem dX3_quarter_248 : decode cX3_quarter 248 = .ok (.iconst 1, 1) := dk_4 (dk_at dksX3_quarter_10 14 rfl rfl)
theorem dX3_quarter_249 : decode cX3_quarter 249 = .ok (.goto 4, 3) := dk_167 0 4 (dk_at dksX3_quarter_10 15 rfl rfl)
theorem dX3_quarter_252 : decode cX3_quarter 252 = .ok (.iconst 0, 1) := dk_3 (dk_at dksX3_quarter_10 18 rfl rfl)
theorem dX3_quarter_253 : decode cX3_quarter 253 = .ok (.istore_n 2, 1) := dk_61 (dk_at dksX3_quarter_10 19 rfl rfl)
theorem dX3_quarter_254 : decode cX3_quarter 254 = .ok (.iload_n 2, 1) := dk_28 (dk_at dksX3_quarter_10 20 rfl rfl)
theorem dX3_quarter_255 : decode cX3_quarter 255 = .ok (.ifCond .eq 16, 3) := dk_153 0 16 (dk_at dksX3_quarter_10 21 rfl rfl)
theorem dX3_quarter_258 : decode cX3_quarter 258 = .ok (.aload_n 0, 1) := dk_42 (dk_at dksX3_quarter_11 0 rfl rfl)
theorem dX3_quarter_259 : decode cX3_quarter 259 = .ok (.getfield 170, 3) := dk_180 0 170 (dk_at dksX3_quarter_11 1 rfl rfl)
theorem dX3_quarter_262 : decode cX3_quarter 262 = .ok (.iload_n 3, 1) := dk_29 (dk_at dksX3_quarter_11 4 rfl rfl)
theorem dX3_quarter_263 : decode cX3_quarter 263 = .ok (.iconst 1, 1) := dk_4 (dk_at dksX3_quarter_11 5 rfl rfl)
theorem dX3_quarter_264 : decode cX3_quarter 264 = .ok (.bastore, 1) := dk_84 (dk_at dksX3_quarter_11 6 rfl rfl)
theorem dX3_quarter_265 : decode cX3_quarter 265 = .ok (.aload_n 0, 1) := dk_42 (dk_at dksX3_quarter_11 7 rfl rfl)
theorem dX3_quarter_266 : decode cX3_quarter 266 = .ok (.iload_n 3, 1) := dk_29 (dk_at dksX3_quarter_11 8 rfl rfl)
theorem dX3_quarter_267 : decode cX3_quarter 267 = .ok (.iload_n 1, 1) := dk_27 (dk_at dksX3_quarter_11 9 rfl rfl)
theorem dX3_quarter_268 : decode cX3_quarter 268 = .ok (.invokevirtual 466, 3) := dk_182 1 210 (dk_at dksX3_quarter_11 10 rfl rfl)
theorem dX3_quarter_271 : decode cX3_quarter 271 = .ok (.goto (-137), 3) := dk_167 255 119 (dk_at dksX3_quarter_11 13 rfl rfl)
theorem dX3_quarter_274 : decode cX3_quarter 274 = .ok (.return_, 1) := dk_177 (dk_at dksX3_quarter_11 16 rfl rfl)
abbrev cX3_comes : ByteArray := prog_26_method_81_code
def yX3_comes : MethodName := ⟨RX3, "comes", "(III)V"⟩
def dkwX3_comes_1 : List UInt8 := [180, 0, 167, 28, 92, 46, 4, 96, 79, 177]
abbrev dktX3_comes_1 : List UInt8 := dkwX3_comes_1 ++ []
def dkwX3_comes_0 : List UInt8 := [42, 180, 0, 143, 27, 28, 79, 42, 180, 0, 146, 27, 29, 79, 42, 180, 0, 149, 27, 16, 252, 79, 42]
abbrev dktX3_comes_0 : List UInt8 := dkwX3_comes_0 ++ dktX3_comes_1
theorem dksX3_comes_0 : cX3_comes.data.toList.drop 0 = dktX3_comes_0 := by decide +kernel
theorem dksX3_comes_1 : cX3_comes.data.toList.drop 23 = dktX3_comes_1 := dk_seg dksX3_comes_0 23 rfl rfl
theorem dX3_comes_0 : decode cX3_comes 0 = .ok (.aload_n 0, 1) := dk_42 (dk_at dksX3_comes_0 0 rfl rfl)
theorem dX3_comes_1 : decode cX3_comes 1 = .ok (.getfield 143, 3) := dk_180 0 143 (dk_at dksX3_comes_0 1 rfl rfl)
theorem dX3_comes_4 : decode cX3_comes 4 = .ok (.iload_n 1, 1) := dk_27 (dk_at dksX3_comes_0 4 rfl rfl)
theorem dX3_comes_5 : decode cX3_comes 5 = .ok (.iload_n 2, 1) := dk_28 (dk_at dksX3_comes_0 5 rfl rfl)
theorem dX3_comes_6 : decode cX3_comes 6 = .ok (.iastore, 1) := dk_79 (dk_at dksX3_comes_0 6 rfl rfl)
theorem dX3_comes_7 : decode cX3_comes 7 = .ok (.aload_n 0, 1) := dk_42 (dk_at dksX3_comes_0 7 rfl rfl)
theorem dX3_comes_8 : decode cX3_comes 8 = .ok (.getfield 146, 3) := dk_180 0 146 (dk_at dksX3_comes_0 8 rfl rfl)
theorem dX3_comes_11 : decode cX3_comes 11 = .ok (.iload_n 1, 1) := dk_27 (dk_at dksX3_comes_0 11 rfl rfl)
theorem dX3_comes_12 : decode cX3_comes 12 = .ok (.iload_n 3, 1) := dk_29 (dk_at dksX3_comes_0 12 rfl rfl)
theorem dX3_comes_13 : decode cX3_comes 13 = .ok (.iastore, 1) := dk_79 (dk_at dksX3_comes_0 13 rfl rfl)
theorem dX3_comes_14 : decode cX3_comes 14 = .ok (.aload_n 0, 1) := dk_42 (dk_at dksX3_comes_0 14 rfl rfl)
theorem dX3_comes_15 : decode cX3_comes 15 = .ok (.getfield 149, 3) := dk_180 0 149 (dk_at dksX3_comes_0 15 rfl rfl)
theorem dX3_comes_18 : decode cX3_comes 18 = .ok (.iload_n 1, 1) := dk_27 (dk_at dksX3_comes_0 18 rfl rfl)
theorem dX3_comes_19 : decode cX3_comes 19 = .ok (.bipush (-4), 2) := dk_16 252 (dk_at dksX3_comes_0 19 rfl rfl)
theorem dX3_comes_21 : decode cX3_comes 21 = .ok (.iastore, 1) := dk_79 (dk_at dksX3_comes_0 21 rfl rfl)
theorem dX3_comes_22 : decode cX3_comes 22 = .ok (.aload_n 0, 1) := dk_42 (dk_at dksX3_comes_0 22 rfl rfl)
theorem dX3_comes_23 : decode cX3_comes 23 = .ok (.getfield 167, 3) := dk_180 0 167 (dk_at dksX3_comes_1 0 rfl rfl)
theorem dX3_comes_26 : decode cX3_comes 26 = .ok (.iload_n 2, 1) := dk_28 (dk_at dksX3_comes_1 3 rfl rfl)
theorem dX3_comes_27 : decode cX3_comes 27 = .ok (.dup2, 1) := dk_92 (dk_at dksX3_comes_1 4 rfl rfl)
theorem dX3_comes_28 : decode cX3_comes 28 = .ok (.iaload, 1) := dk_46 (dk_at dksX3_comes_1 5 rfl rfl)
theorem dX3_comes_29 : decode cX3_comes 29 = .ok (.iconst 1, 1) := dk_4 (dk_at dksX3_comes_1 6 rfl rfl)
theorem dX3_comes_30 : decode cX3_comes 30 = .ok (.iadd, 1) := dk_96 (dk_at dksX3_comes_1 7 rfl rfl)
theorem dX3_comes_31 : decode cX3_comes 31 = .ok (.iastore, 1) := dk_79 (dk_at dksX3_comes_1 8 rfl rfl)
theorem dX3_comes_32 : decode cX3_comes 32 = .ok (.return_, 1) := dk_177 (dk_at dksX3_comes_1 9 rfl rfl)
abbrev cX3_decides : ByteArray := prog_26_method_85_code
def yX3_decides : MethodName := ⟨RX3, "decides", "(II)V"⟩
def dkwX3_decides_5 : List UInt8 := [28, 21, 5, 96, 79, 177]
abbrev dktX3_decides_5 : List UInt8 := dkwX3_decides_5 ++ []
def dkwX3_decides_4 : List UInt8 := [182, 1, 204, 153, 0, 16, 42, 180, 0, 155, 27, 92, 46, 4, 96, 79, 167, 0, 13, 42, 180, 0, 149, 27]
abbrev dktX3_decides_4 : List UInt8 := dkwX3_decides_4 ++ dktX3_decides_5
def dkwX3_decides_3 : List UInt8 := [153, 0, 19, 42, 180, 0, 137, 27, 4, 84, 42, 27, 28, 182, 1, 196, 167, 0, 35, 42, 21, 4]
abbrev dktX3_decides_3 : List UInt8 := dkwX3_decides_3 ++ dktX3_decides_4
def dkwX3_decides_2 : List UInt8 := [180, 0, 122, 27, 46, 28, 182, 1, 21, 54, 5, 21, 5, 16, 251, 159, 0, 12, 42, 27, 28, 182, 1, 200]
abbrev dktX3_decides_2 : List UInt8 := dkwX3_decides_2 ++ dktX3_decides_3
def dkwX3_decides_1 : List UInt8 := [28, 182, 1, 196, 177, 42, 29, 42, 180, 0, 140, 27, 46, 182, 0, 237, 54, 4, 42, 21, 4, 42]
abbrev dktX3_decides_1 : List UInt8 := dkwX3_decides_1 ++ dktX3_decides_2
def dkwX3_decides_0 : List UInt8 := [42, 180, 0, 119, 27, 46, 62, 42, 180, 0, 140, 27, 46, 42, 180, 0, 32, 29, 46, 160, 0, 10, 42, 27]
abbrev dktX3_decides_0 : List UInt8 := dkwX3_decides_0 ++ dktX3_decides_1
theorem dksX3_decides_0 : cX3_decides.data.toList.drop 0 = dktX3_decides_0 := by decide +kernel
theorem dksX3_decides_1 : cX3_decides.data.toList.drop 24 = dktX3_decides_1 := dk_seg dksX3_decides_0 24 rfl rfl
theorem dksX3_decides_2 : cX3_decides.data.toList.drop 46 = dktX3_decides_2 := dk_seg dksX3_decides_1 22 rfl rfl
theorem dksX3_decides_3 : cX3_decides.data.toList.drop 70 = dktX3_decides_3 := dk_seg dksX3_decides_2 24 rfl rfl
theorem dksX3_decides_4 : cX3_decides.data.toList.drop 92 = dktX3_decides_4 := dk_seg dksX3_decides_3 22 rfl rfl
theorem dksX3_decides_5 : cX3_decides.data.toList.drop 116 = dktX3_decides_5 := dk_seg dksX3_decides_4 24 rfl rfl
theorem dX3_decides_0 : decode cX3_decides 0 = .ok (.aload_n 0, 1) := dk_42 (dk_at dksX3_decides_0 0 rfl rfl)
theorem dX3_decides_1 : decode cX3_decides 1 = .ok (.getfield 119, 3) := dk_180 0 119 (dk_at dksX3_decides_0 1 rfl rfl)
theorem dX3_decides_4 : decode cX3_decides 4 = .ok (.iload_n 1, 1) := dk_27 (dk_at dksX3_decides_0 4 rfl rfl)
theorem dX3_decides_5 : decode cX3_decides 5 = .ok (.iaload, 1) := dk_46 (dk_at dksX3_decides_0 5 rfl rfl)
theorem dX3_decides_6 : decode cX3_decides 6 = .ok (.istore_n 3, 1) := dk_62 (dk_at dksX3_decides_0 6 rfl rfl)
theorem dX3_decides_7 : decode cX3_decides 7 = .ok (.aload_n 0, 1) := dk_42 (dk_at dksX3_decides_0 7 rfl rfl)
theorem dX3_decides_8 : decode cX3_decides 8 = .ok (.getfield 140, 3) := dk_180 0 140 (dk_at dksX3_decides_0 8 rfl rfl)
theorem dX3_decides_11 : decode cX3_decides 11 = .ok (.iload_n 1, 1) := dk_27 (dk_at dksX3_decides_0 11 rfl rfl)
theorem dX3_decides_12 : decode cX3_decides 12 = .ok (.iaload, 1) := dk_46 (dk_at dksX3_decides_0 12 rfl rfl)
theorem dX3_decides_13 : decode cX3_decides 13 = .ok (.aload_n 0, 1) := dk_42 (dk_at dksX3_decides_0 13 rfl rfl)
theorem dX3_decides_14 : decode cX3_decides 14 = .ok (.getfield 32, 3) := dk_180 0 32 (dk_at dksX3_decides_0 14 rfl rfl)
theorem dX3_decides_17 : decode cX3_decides 17 = .ok (.iload_n 3, 1) := dk_29 (dk_at dksX3_decides_0 17 rfl rfl)
theorem dX3_decides_18 : decode cX3_decides 18 = .ok (.iaload, 1) := dk_46 (dk_at dksX3_decides_0 18 rfl rfl)
theorem dX3_decides_19 : decode cX3_decides 19 = .ok (.if_icmp .ne 10, 3) := dk_160 0 10 (dk_at dksX3_decides_0 19 rfl rfl)
theorem dX3_decides_22 : decode cX3_decides 22 = .ok (.aload_n 0, 1) := dk_42 (dk_at dksX3_decides_0 22 rfl rfl)
theorem dX3_decides_23 : decode cX3_decides 23 = .ok (.iload_n 1, 1) := dk_27 (dk_at dksX3_decides_0 23 rfl rfl)
theorem dX3_decides_24 : decode cX3_decides 24 = .ok (.iload_n 2, 1) := dk_28 (dk_at dksX3_decides_1 0 rfl rfl)
theorem dX3_decides_25 : decode cX3_decides 25 = .ok (.invokevirtual 452, 3) := dk_182 1 196 (dk_at dksX3_decides_1 1 rfl rfl)
theorem dX3_decides_28 : decode cX3_decides 28 = .ok (.return_, 1) := dk_177 (dk_at dksX3_decides_1 4 rfl rfl)
theorem dX3_decides_29 : decode cX3_decides 29 = .ok (.aload_n 0, 1) := dk_42 (dk_at dksX3_decides_1 5 rfl rfl)
theorem dX3_decides_30 : decode cX3_decides 30 = .ok (.iload_n 3, 1) := dk_29 (dk_at dksX3_decides_1 6 rfl rfl)
theorem dX3_decides_31 : decode cX3_decides 31 = .ok (.aload_n 0, 1) := dk_42 (dk_at dksX3_decides_1 7 rfl rfl)
theorem dX3_decides_32 : decode cX3_decides 32 = .ok (.getfield 140, 3) := dk_180 0 140 (dk_at dksX3_decides_1 8 rfl rfl)
theorem dX3_decides_35 : decode cX3_decides 35 = .ok (.iload_n 1, 1) := dk_27 (dk_at dksX3_decides_1 11 rfl rfl)
theorem dX3_decides_36 : decode cX3_decides 36 = .ok (.iaload, 1) := dk_46 (dk_at dksX3_decides_1 12 rfl rfl)
theorem dX3_decides_37 : decode cX3_decides 37 = .ok (.invokevirtual 237, 3) := dk_182 0 237 (dk_at dksX3_decides_1 13 rfl rfl)
theorem dX3_decides_40 : decode cX3_decides 40 = .ok (.istore 4, 2) := dk_54 4 (dk_at dksX3_decides_1 16 rfl rfl)
theorem dX3_decides_42 : decode cX3_decides 42 = .ok (.aload_n 0, 1) := dk_42 (dk_at dksX3_decides_1 18 rfl rfl)
theorem dX3_decides_43 : decode cX3_decides 43 = .ok (.iload 4, 2) := dk_21 4 (dk_at dksX3_decides_1 19 rfl rfl)
theorem dX3_decides_45 : decode cX3_decides 45 = .ok (.aload_n 0, 1) := dk_42 (dk_at dksX3_decides_1 21 rfl rfl)
theorem dX3_decides_46 : decode cX3_decides 46 = .ok (.getfield 122, 3) := dk_180 0 122 (dk_at dksX3_decides_2 0 rfl rfl)
theorem dX3_decides_49 : decode cX3_decides 49 = .ok (.iload_n 1, 1) := dk_27 (dk_at dksX3_decides_2 3 rfl rfl)
theorem dX3_decides_50 : decode cX3_decides 50 = .ok (.iaload, 1) := dk_46 (dk_at dksX3_decides_2 4 rfl rfl)
theorem dX3_decides_51 : decode cX3_decides 51 = .ok (.iload_n 2, 1) := dk_28 (dk_at dksX3_decides_2 5 rfl rfl)
theorem dX3_decides_52 : decode cX3_decides 52 = .ok (.invokevirtual 277, 3) := dk_182 1 21 (dk_at dksX3_decides_2 6 rfl rfl)
theorem dX3_decides_55 : decode cX3_decides 55 = .ok (.istore 5, 2) := dk_54 5 (dk_at dksX3_decides_2 9 rfl rfl)
theorem dX3_decides_57 : decode cX3_decides 57 = .ok (.iload 5, 2) := dk_21 5 (dk_at dksX3_decides_2 11 rfl rfl)
theorem dX3_decides_59 : decode cX3_decides 59 = .ok (.bipush (-5), 2) := dk_16 251 (dk_at dksX3_decides_2 13 rfl rfl)
theorem dX3_decides_61 : decode cX3_decides 61 = .ok (.if_icmp .eq 12, 3) := dk_159 0 12 (dk_at dksX3_decides_2 15 rfl rfl)
theorem dX3_decides_64 : decode cX3_decides 64 = .ok (.aload_n 0, 1) := dk_42 (dk_at dksX3_decides_2 18 rfl rfl)
theorem dX3_decides_65 : decode cX3_decides 65 = .ok (.iload_n 1, 1) := dk_27 (dk_at dksX3_decides_2 19 rfl rfl)
theorem dX3_decides_66 : decode cX3_decides 66 = .ok (.iload_n 2, 1) := dk_28 (dk_at dksX3_decides_2 20 rfl rfl)
theorem dX3_decides_67 : decode cX3_decides 67 = .ok (.invokevirtual 456, 3) := dk_182 1 200 (dk_at dksX3_decides_2 21 rfl rfl)
theorem dX3_decides_70 : decode cX3_decides 70 = .ok (.ifCond .eq 19, 3) := dk_153 0 19 (dk_at dksX3_decides_3 0 rfl rfl)
theorem dX3_decides_73 : decode cX3_decides 73 = .ok (.aload_n 0, 1) := dk_42 (dk_at dksX3_decides_3 3 rfl rfl)
theorem dX3_decides_74 : decode cX3_decides 74 = .ok (.getfield 137, 3) := dk_180 0 137 (dk_at dksX3_decides_3 4 rfl rfl)
theorem dX3_decides_77 : decode cX3_decides 77 = .ok (.iload_n 1, 1) := dk_27 (dk_at dksX3_decides_3 7 rfl rfl)
theorem dX3_decides_78 : decode cX3_decides 78 = .ok (.iconst 1, 1) := dk_4 (dk_at dksX3_decides_3 8 rfl rfl)
theorem dX3_decides_79 : decode cX3_decides 79 = .ok (.bastore, 1) := dk_84 (dk_at dksX3_decides_3 9 rfl rfl)
theorem dX3_decides_80 : decode cX3_decides 80 = .ok (.aload_n 0, 1) := dk_42 (dk_at dksX3_decides_3 10 rfl rfl)
theorem dX3_decides_81 : decode cX3_decides 81 = .ok (.iload_n 1, 1) := dk_27 (dk_at dksX3_decides_3 11 rfl rfl)
theorem dX3_decides_82 : decode cX3_decides 82 = .ok (.iload_n 2, 1) := dk_28 (dk_at dksX3_decides_3 12 rfl rfl)
theorem dX3_decides_83 : decode cX3_decides 83 = .ok (.invokevirtual 452, 3) := dk_182 1 196 (dk_at dksX3_decides_3 13 rfl rfl)
theorem dX3_decides_86 : decode cX3_decides 86 = .ok (.goto 35, 3) := dk_167 0 35 (dk_at dksX3_decides_3 16 rfl rfl)
theorem dX3_decides_89 : decode cX3_decides 89 = .ok (.aload_n 0, 1) := dk_42 (dk_at dksX3_decides_3 19 rfl rfl)
theorem dX3_decides_90 : decode cX3_decides 90 = .ok (.iload 4, 2) := dk_21 4 (dk_at dksX3_decides_3 20 rfl rfl)
theorem dX3_decides_92 : decode cX3_decides 92 = .ok (.invokevirtual 460, 3) := dk_182 1 204 (dk_at dksX3_decides_4 0 rfl rfl)
theorem dX3_decides_95 : decode cX3_decides 95 = .ok (.ifCond .eq 16, 3) := dk_153 0 16 (dk_at dksX3_decides_4 3 rfl rfl)
theorem dX3_decides_98 : decode cX3_decides 98 = .ok (.aload_n 0, 1) := dk_42 (dk_at dksX3_decides_4 6 rfl rfl)
theorem dX3_decides_99 : decode cX3_decides 99 = .ok (.getfield 155, 3) := dk_180 0 155 (dk_at dksX3_decides_4 7 rfl rfl)
theorem dX3_decides_102 : decode cX3_decides 102 = .ok (.iload_n 1, 1) := dk_27 (dk_at dksX3_decides_4 10 rfl rfl)
theorem dX3_decides_103 : decode cX3_decides 103 = .ok (.dup2, 1) := dk_92 (dk_at dksX3_decides_4 11 rfl rfl)
theorem dX3_decides_104 : decode cX3_decides 104 = .ok (.iaload, 1) := dk_46 (dk_at dksX3_decides_4 12 rfl rfl)
theorem dX3_decides_105 : decode cX3_decides 105 = .ok (.iconst 1, 1) := dk_4 (dk_at dksX3_decides_4 13 rfl rfl)
theorem dX3_decides_106 : decode cX3_decides 106 = .ok (.iadd, 1) := dk_96 (dk_at dksX3_decides_4 14 rfl rfl)
theorem dX3_decides_107 : decode cX3_decides 107 = .ok (.iastore, 1) := dk_79 (dk_at dksX3_decides_4 15 rfl rfl)
theorem dX3_decides_108 : decode cX3_decides 108 = .ok (.goto 13, 3) := dk_167 0 13 (dk_at dksX3_decides_4 16 rfl rfl)
theorem dX3_decides_111 : decode cX3_decides 111 = .ok (.aload_n 0, 1) := dk_42 (dk_at dksX3_decides_4 19 rfl rfl)
theorem dX3_decides_112 : decode cX3_decides 112 = .ok (.getfield 149, 3) := dk_180 0 149 (dk_at dksX3_decides_4 20 rfl rfl)
theorem dX3_decides_115 : decode cX3_decides 115 = .ok (.iload_n 1, 1) := dk_27 (dk_at dksX3_decides_4 23 rfl rfl)
theorem dX3_decides_116 : decode cX3_decides 116 = .ok (.iload_n 2, 1) := dk_28 (dk_at dksX3_decides_5 0 rfl rfl)
theorem dX3_decides_117 : decode cX3_decides 117 = .ok (.iload 5, 2) := dk_21 5 (dk_at dksX3_decides_5 1 rfl rfl)
theorem dX3_decides_119 : decode cX3_decides 119 = .ok (.iadd, 1) := dk_96 (dk_at dksX3_decides_5 3 rfl rfl)
theorem dX3_decides_120 : decode cX3_decides 120 = .ok (.iastore, 1) := dk_79 (dk_at dksX3_decides_5 4 rfl rfl)
theorem dX3_decides_121 : decode cX3_decides 121 = .ok (.return_, 1) := dk_177 (dk_at dksX3_decides_5 5 rfl rfl)
abbrev cX3_done : ByteArray := prog_26_method_82_code
def yX3_done : MethodName := ⟨RX3, "done", "(II)V"⟩
def dkwX3_done_4 : List UInt8 := [21, 5, 100, 96, 79, 177]
abbrev dktX3_done_4 : List UInt8 := dkwX3_done_4 ++ []
def dkwX3_done_3 : List UInt8 := [180, 0, 161, 29, 92, 46, 21, 5, 96, 79, 42, 180, 0, 164, 29, 92, 46, 42, 180, 0, 128, 27, 46]
abbrev dktX3_done_3 : List UInt8 := dkwX3_done_3 ++ dktX3_done_4
def dkwX3_done_2 : List UInt8 := [180, 0, 134, 27, 4, 84, 42, 180, 0, 152, 27, 28, 79, 42, 180, 0, 158, 27, 21, 5, 79, 42]
abbrev dktX3_done_2 : List UInt8 := dkwX3_done_2 ++ dktX3_done_3
def dkwX3_done_1 : List UInt8 := [180, 0, 128, 27, 46, 21, 4, 162, 0, 12, 42, 180, 0, 128, 27, 46, 167, 0, 5, 21, 4, 54, 5, 42]
abbrev dktX3_done_1 : List UInt8 := dkwX3_done_1 ++ dktX3_done_2
def dkwX3_done_0 : List UInt8 := [42, 180, 0, 143, 27, 46, 62, 42, 180, 0, 7, 29, 46, 42, 180, 0, 161, 29, 46, 100, 54, 4, 42]
abbrev dktX3_done_0 : List UInt8 := dkwX3_done_0 ++ dktX3_done_1
theorem dksX3_done_0 : cX3_done.data.toList.drop 0 = dktX3_done_0 := by decide +kernel
theorem dksX3_done_1 : cX3_done.data.toList.drop 23 = dktX3_done_1 := dk_seg dksX3_done_0 23 rfl rfl
theorem dksX3_done_2 : cX3_done.data.toList.drop 47 = dktX3_done_2 := dk_seg dksX3_done_1 24 rfl rfl
theorem dksX3_done_3 : cX3_done.data.toList.drop 69 = dktX3_done_3 := dk_seg dksX3_done_2 22 rfl rfl
theorem dksX3_done_4 : cX3_done.data.toList.drop 92 = dktX3_done_4 := dk_seg dksX3_done_3 23 rfl rfl
theorem dX3_done_0 : decode cX3_done 0 = .ok (.aload_n 0, 1) := dk_42 (dk_at dksX3_done_0 0 rfl rfl)
theorem dX3_done_1 : decode cX3_done 1 = .ok (.getfield 143, 3) := dk_180 0 143 (dk_at dksX3_done_0 1 rfl rfl)
theorem dX3_done_4 : decode cX3_done 4 = .ok (.iload_n 1, 1) := dk_27 (dk_at dksX3_done_0 4 rfl rfl)
theorem dX3_done_5 : decode cX3_done 5 = .ok (.iaload, 1) := dk_46 (dk_at dksX3_done_0 5 rfl rfl)
theorem dX3_done_6 : decode cX3_done 6 = .ok (.istore_n 3, 1) := dk_62 (dk_at dksX3_done_0 6 rfl rfl)
theorem dX3_done_7 : decode cX3_done 7 = .ok (.aload_n 0, 1) := dk_42 (dk_at dksX3_done_0 7 rfl rfl)
theorem dX3_done_8 : decode cX3_done 8 = .ok (.getfield 7, 3) := dk_180 0 7 (dk_at dksX3_done_0 8 rfl rfl)
theorem dX3_done_11 : decode cX3_done 11 = .ok (.iload_n 3, 1) := dk_29 (dk_at dksX3_done_0 11 rfl rfl)
theorem dX3_done_12 : decode cX3_done 12 = .ok (.iaload, 1) := dk_46 (dk_at dksX3_done_0 12 rfl rfl)
theorem dX3_done_13 : decode cX3_done 13 = .ok (.aload_n 0, 1) := dk_42 (dk_at dksX3_done_0 13 rfl rfl)
theorem dX3_done_14 : decode cX3_done 14 = .ok (.getfield 161, 3) := dk_180 0 161 (dk_at dksX3_done_0 14 rfl rfl)
theorem dX3_done_17 : decode cX3_done 17 = .ok (.iload_n 3, 1) := dk_29 (dk_at dksX3_done_0 17 rfl rfl)
theorem dX3_done_18 : decode cX3_done 18 = .ok (.iaload, 1) := dk_46 (dk_at dksX3_done_0 18 rfl rfl)
theorem dX3_done_19 : decode cX3_done 19 = .ok (.isub, 1) := dk_100 (dk_at dksX3_done_0 19 rfl rfl)
theorem dX3_done_20 : decode cX3_done 20 = .ok (.istore 4, 2) := dk_54 4 (dk_at dksX3_done_0 20 rfl rfl)
theorem dX3_done_22 : decode cX3_done 22 = .ok (.aload_n 0, 1) := dk_42 (dk_at dksX3_done_0 22 rfl rfl)
theorem dX3_done_23 : decode cX3_done 23 = .ok (.getfield 128, 3) := dk_180 0 128 (dk_at dksX3_done_1 0 rfl rfl)
theorem dX3_done_26 : decode cX3_done 26 = .ok (.iload_n 1, 1) := dk_27 (dk_at dksX3_done_1 3 rfl rfl)
theorem dX3_done_27 : decode cX3_done 27 = .ok (.iaload, 1) := dk_46 (dk_at dksX3_done_1 4 rfl rfl)
theorem dX3_done_28 : decode cX3_done 28 = .ok (.iload 4, 2) := dk_21 4 (dk_at dksX3_done_1 5 rfl rfl)
theorem dX3_done_30 : decode cX3_done 30 = .ok (.if_icmp .ge 12, 3) := dk_162 0 12 (dk_at dksX3_done_1 7 rfl rfl)
theorem dX3_done_33 : decode cX3_done 33 = .ok (.aload_n 0, 1) := dk_42 (dk_at dksX3_done_1 10 rfl rfl)
theorem dX3_done_34 : decode cX3_done 34 = .ok (.getfield 128, 3) := dk_180 0 128 (dk_at dksX3_done_1 11 rfl rfl)
theorem dX3_done_37 : decode cX3_done 37 = .ok (.iload_n 1, 1) := dk_27 (dk_at dksX3_done_1 14 rfl rfl)
theorem dX3_done_38 : decode cX3_done 38 = .ok (.iaload, 1) := dk_46 (dk_at dksX3_done_1 15 rfl rfl)
theorem dX3_done_39 : decode cX3_done 39 = .ok (.goto 5, 3) := dk_167 0 5 (dk_at dksX3_done_1 16 rfl rfl)
theorem dX3_done_42 : decode cX3_done 42 = .ok (.iload 4, 2) := dk_21 4 (dk_at dksX3_done_1 19 rfl rfl)
theorem dX3_done_44 : decode cX3_done 44 = .ok (.istore 5, 2) := dk_54 5 (dk_at dksX3_done_1 21 rfl rfl)
theorem dX3_done_46 : decode cX3_done 46 = .ok (.aload_n 0, 1) := dk_42 (dk_at dksX3_done_1 23 rfl rfl)
theorem dX3_done_47 : decode cX3_done 47 = .ok (.getfield 134, 3) := dk_180 0 134 (dk_at dksX3_done_2 0 rfl rfl)
theorem dX3_done_50 : decode cX3_done 50 = .ok (.iload_n 1, 1) := dk_27 (dk_at dksX3_done_2 3 rfl rfl)
theorem dX3_done_51 : decode cX3_done 51 = .ok (.iconst 1, 1) := dk_4 (dk_at dksX3_done_2 4 rfl rfl)
theorem dX3_done_52 : decode cX3_done 52 = .ok (.bastore, 1) := dk_84 (dk_at dksX3_done_2 5 rfl rfl)
theorem dX3_done_53 : decode cX3_done 53 = .ok (.aload_n 0, 1) := dk_42 (dk_at dksX3_done_2 6 rfl rfl)
theorem dX3_done_54 : decode cX3_done 54 = .ok (.getfield 152, 3) := dk_180 0 152 (dk_at dksX3_done_2 7 rfl rfl)
theorem dX3_done_57 : decode cX3_done 57 = .ok (.iload_n 1, 1) := dk_27 (dk_at dksX3_done_2 10 rfl rfl)
theorem dX3_done_58 : decode cX3_done 58 = .ok (.iload_n 2, 1) := dk_28 (dk_at dksX3_done_2 11 rfl rfl)
theorem dX3_done_59 : decode cX3_done 59 = .ok (.iastore, 1) := dk_79 (dk_at dksX3_done_2 12 rfl rfl)
theorem dX3_done_60 : decode cX3_done 60 = .ok (.aload_n 0, 1) := dk_42 (dk_at dksX3_done_2 13 rfl rfl)
theorem dX3_done_61 : decode cX3_done 61 = .ok (.getfield 158, 3) := dk_180 0 158 (dk_at dksX3_done_2 14 rfl rfl)
theorem dX3_done_64 : decode cX3_done 64 = .ok (.iload_n 1, 1) := dk_27 (dk_at dksX3_done_2 17 rfl rfl)
theorem dX3_done_65 : decode cX3_done 65 = .ok (.iload 5, 2) := dk_21 5 (dk_at dksX3_done_2 18 rfl rfl)
theorem dX3_done_67 : decode cX3_done 67 = .ok (.iastore, 1) := dk_79 (dk_at dksX3_done_2 20 rfl rfl)
theorem dX3_done_68 : decode cX3_done 68 = .ok (.aload_n 0, 1) := dk_42 (dk_at dksX3_done_2 21 rfl rfl)
theorem dX3_done_69 : decode cX3_done 69 = .ok (.getfield 161, 3) := dk_180 0 161 (dk_at dksX3_done_3 0 rfl rfl)
theorem dX3_done_72 : decode cX3_done 72 = .ok (.iload_n 3, 1) := dk_29 (dk_at dksX3_done_3 3 rfl rfl)
theorem dX3_done_73 : decode cX3_done 73 = .ok (.dup2, 1) := dk_92 (dk_at dksX3_done_3 4 rfl rfl)
theorem dX3_done_74 : decode cX3_done 74 = .ok (.iaload, 1) := dk_46 (dk_at dksX3_done_3 5 rfl rfl)
theorem dX3_done_75 : decode cX3_done 75 = .ok (.iload 5, 2) := dk_21 5 (dk_at dksX3_done_3 6 rfl rfl)
theorem dX3_done_77 : decode cX3_done 77 = .ok (.iadd, 1) := dk_96 (dk_at dksX3_done_3 8 rfl rfl)
theorem dX3_done_78 : decode cX3_done 78 = .ok (.iastore, 1) := dk_79 (dk_at dksX3_done_3 9 rfl rfl)
theorem dX3_done_79 : decode cX3_done 79 = .ok (.aload_n 0, 1) := dk_42 (dk_at dksX3_done_3 10 rfl rfl)
theorem dX3_done_80 : decode cX3_done 80 = .ok (.getfield 164, 3) := dk_180 0 164 (dk_at dksX3_done_3 11 rfl rfl)
theorem dX3_done_83 : decode cX3_done 83 = .ok (.iload_n 3, 1) := dk_29 (dk_at dksX3_done_3 14 rfl rfl)
theorem dX3_done_84 : decode cX3_done 84 = .ok (.dup2, 1) := dk_92 (dk_at dksX3_done_3 15 rfl rfl)
theorem dX3_done_85 : decode cX3_done 85 = .ok (.iaload, 1) := dk_46 (dk_at dksX3_done_3 16 rfl rfl)
theorem dX3_done_86 : decode cX3_done 86 = .ok (.aload_n 0, 1) := dk_42 (dk_at dksX3_done_3 17 rfl rfl)
theorem dX3_done_87 : decode cX3_done 87 = .ok (.getfield 128, 3) := dk_180 0 128 (dk_at dksX3_done_3 18 rfl rfl)
theorem dX3_done_90 : decode cX3_done 90 = .ok (.iload_n 1, 1) := dk_27 (dk_at dksX3_done_3 21 rfl rfl)
theorem dX3_done_91 : decode cX3_done 91 = .ok (.iaload, 1) := dk_46 (dk_at dksX3_done_3 22 rfl rfl)
theorem dX3_done_92 : decode cX3_done 92 = .ok (.iload 5, 2) := dk_21 5 (dk_at dksX3_done_4 0 rfl rfl)
theorem dX3_done_94 : decode cX3_done 94 = .ok (.isub, 1) := dk_100 (dk_at dksX3_done_4 2 rfl rfl)
theorem dX3_done_95 : decode cX3_done 95 = .ok (.iadd, 1) := dk_96 (dk_at dksX3_done_4 3 rfl rfl)
theorem dX3_done_96 : decode cX3_done 96 = .ok (.iastore, 1) := dk_79 (dk_at dksX3_done_4 4 rfl rfl)
theorem dX3_done_97 : decode cX3_done 97 = .ok (.return_, 1) := dk_177 (dk_at dksX3_done_4 5 rfl rfl)
abbrev cX3_isCalledBack : ByteArray := prog_26_method_84_code
def yX3_isCalledBack : MethodName := ⟨RX3, "isCalledBack", "(II)Z"⟩
def dkwX3_isCalledBack_2 : List UInt8 := [21, 4, 182, 1, 154, 4, 160, 0, 7, 4, 167, 0, 4, 3, 62, 132, 4, 1, 167, 255, 213, 29, 172]
abbrev dktX3_isCalledBack_2 : List UInt8 := dkwX3_isCalledBack_2 ++ []
def dkwX3_isCalledBack_1 : List UInt8 := [42, 180, 1, 140, 162, 0, 40, 29, 154, 0, 24, 42, 180, 0, 77, 21, 4, 46, 6, 160, 0, 17, 42]
abbrev dktX3_isCalledBack_1 : List UInt8 := dkwX3_isCalledBack_1 ++ dktX3_isCalledBack_2
def dkwX3_isCalledBack_0 : List UInt8 := [42, 42, 180, 0, 119, 27, 46, 28, 42, 180, 0, 128, 27, 46, 182, 1, 150, 3, 62, 3, 54, 4, 21, 4]
abbrev dktX3_isCalledBack_0 : List UInt8 := dkwX3_isCalledBack_0 ++ dktX3_isCalledBack_1
theorem dksX3_isCalledBack_0 : cX3_isCalledBack.data.toList.drop 0 = dktX3_isCalledBack_0 := by decide +kernel
theorem dksX3_isCalledBack_1 : cX3_isCalledBack.data.toList.drop 24 = dktX3_isCalledBack_1 := dk_seg dksX3_isCalledBack_0 24 rfl rfl
theorem dksX3_isCalledBack_2 : cX3_isCalledBack.data.toList.drop 47 = dktX3_isCalledBack_2 := dk_seg dksX3_isCalledBack_1 23 rfl rfl
theorem dX3_isCalledBack_0 : decode cX3_isCalledBack 0 = .ok (.aload_n 0, 1) := dk_42 (dk_at dksX3_isCalledBack_0 0 rfl rfl)
theorem dX3_isCalledBack_1 : decode cX3_isCalledBack 1 = .ok (.aload_n 0, 1) := dk_42 (dk_at dksX3_isCalledBack_0 1 rfl rfl)
theorem dX3_isCalledBack_2 : decode cX3_isCalledBack 2 = .ok (.getfield 119, 3) := dk_180 0 119 (dk_at dksX3_isCalledBack_0 2 rfl rfl)
theorem dX3_isCalledBack_5 : decode cX3_isCalledBack 5 = .ok (.iload_n 1, 1) := dk_27 (dk_at dksX3_isCalledBack_0 5 rfl rfl)
theorem dX3_isCalledBack_6 : decode cX3_isCalledBack 6 = .ok (.iaload, 1) := dk_46 (dk_at dksX3_isCalledBack_0 6 rfl rfl)
theorem dX3_isCalledBack_7 : decode cX3_isCalledBack 7 = .ok (.iload_n 2, 1) := dk_28 (dk_at dksX3_isCalledBack_0 7 rfl rfl)
theorem dX3_isCalledBack_8 : decode cX3_isCalledBack 8 = .ok (.aload_n 0, 1) := dk_42 (dk_at dksX3_isCalledBack_0 8 rfl rfl)
theorem dX3_isCalledBack_9 : decode cX3_isCalledBack 9 = .ok (.getfield 128, 3) := dk_180 0 128 (dk_at dksX3_isCalledBack_0 9 rfl rfl)
theorem dX3_isCalledBack_12 : decode cX3_isCalledBack 12 = .ok (.iload_n 1, 1) := dk_27 (dk_at dksX3_isCalledBack_0 12 rfl rfl)
theorem dX3_isCalledBack_13 : decode cX3_isCalledBack 13 = .ok (.iaload, 1) := dk_46 (dk_at dksX3_isCalledBack_0 13 rfl rfl)
theorem dX3_isCalledBack_14 : decode cX3_isCalledBack 14 = .ok (.invokevirtual 406, 3) := dk_182 1 150 (dk_at dksX3_isCalledBack_0 14 rfl rfl)
theorem dX3_isCalledBack_17 : decode cX3_isCalledBack 17 = .ok (.iconst 0, 1) := dk_3 (dk_at dksX3_isCalledBack_0 17 rfl rfl)
theorem dX3_isCalledBack_18 : decode cX3_isCalledBack 18 = .ok (.istore_n 3, 1) := dk_62 (dk_at dksX3_isCalledBack_0 18 rfl rfl)
theorem dX3_isCalledBack_19 : decode cX3_isCalledBack 19 = .ok (.iconst 0, 1) := dk_3 (dk_at dksX3_isCalledBack_0 19 rfl rfl)
theorem dX3_isCalledBack_20 : decode cX3_isCalledBack 20 = .ok (.istore 4, 2) := dk_54 4 (dk_at dksX3_isCalledBack_0 20 rfl rfl)
theorem dX3_isCalledBack_22 : decode cX3_isCalledBack 22 = .ok (.iload 4, 2) := dk_21 4 (dk_at dksX3_isCalledBack_0 22 rfl rfl)
theorem dX3_isCalledBack_24 : decode cX3_isCalledBack 24 = .ok (.aload_n 0, 1) := dk_42 (dk_at dksX3_isCalledBack_1 0 rfl rfl)
theorem dX3_isCalledBack_25 : decode cX3_isCalledBack 25 = .ok (.getfield 396, 3) := dk_180 1 140 (dk_at dksX3_isCalledBack_1 1 rfl rfl)
theorem dX3_isCalledBack_28 : decode cX3_isCalledBack 28 = .ok (.if_icmp .ge 40, 3) := dk_162 0 40 (dk_at dksX3_isCalledBack_1 4 rfl rfl)
theorem dX3_isCalledBack_31 : decode cX3_isCalledBack 31 = .ok (.iload_n 3, 1) := dk_29 (dk_at dksX3_isCalledBack_1 7 rfl rfl)
theorem dX3_isCalledBack_32 : decode cX3_isCalledBack 32 = .ok (.ifCond .ne 24, 3) := dk_154 0 24 (dk_at dksX3_isCalledBack_1 8 rfl rfl)
theorem dX3_isCalledBack_35 : decode cX3_isCalledBack 35 = .ok (.aload_n 0, 1) := dk_42 (dk_at dksX3_isCalledBack_1 11 rfl rfl)
theorem dX3_isCalledBack_36 : decode cX3_isCalledBack 36 = .ok (.getfield 77, 3) := dk_180 0 77 (dk_at dksX3_isCalledBack_1 12 rfl rfl)
theorem dX3_isCalledBack_39 : decode cX3_isCalledBack 39 = .ok (.iload 4, 2) := dk_21 4 (dk_at dksX3_isCalledBack_1 15 rfl rfl)
theorem dX3_isCalledBack_41 : decode cX3_isCalledBack 41 = .ok (.iaload, 1) := dk_46 (dk_at dksX3_isCalledBack_1 17 rfl rfl)
theorem dX3_isCalledBack_42 : decode cX3_isCalledBack 42 = .ok (.iconst 3, 1) := dk_6 (dk_at dksX3_isCalledBack_1 18 rfl rfl)
theorem dX3_isCalledBack_43 : decode cX3_isCalledBack 43 = .ok (.if_icmp .ne 17, 3) := dk_160 0 17 (dk_at dksX3_isCalledBack_1 19 rfl rfl)
theorem dX3_isCalledBack_46 : decode cX3_isCalledBack 46 = .ok (.aload_n 0, 1) := dk_42 (dk_at dksX3_isCalledBack_1 22 rfl rfl)
theorem dX3_isCalledBack_47 : decode cX3_isCalledBack 47 = .ok (.iload 4, 2) := dk_21 4 (dk_at dksX3_isCalledBack_2 0 rfl rfl)
theorem dX3_isCalledBack_49 : decode cX3_isCalledBack 49 = .ok (.invokevirtual 410, 3) := dk_182 1 154 (dk_at dksX3_isCalledBack_2 2 rfl rfl)
theorem dX3_isCalledBack_52 : decode cX3_isCalledBack 52 = .ok (.iconst 1, 1) := dk_4 (dk_at dksX3_isCalledBack_2 5 rfl rfl)
theorem dX3_isCalledBack_53 : decode cX3_isCalledBack 53 = .ok (.if_icmp .ne 7, 3) := dk_160 0 7 (dk_at dksX3_isCalledBack_2 6 rfl rfl)
theorem dX3_isCalledBack_56 : decode cX3_isCalledBack 56 = .ok (.iconst 1, 1) := dk_4 (dk_at dksX3_isCalledBack_2 9 rfl rfl)
theorem dX3_isCalledBack_57 : decode cX3_isCalledBack 57 = .ok (.goto 4, 3) := dk_167 0 4 (dk_at dksX3_isCalledBack_2 10 rfl rfl)
theorem dX3_isCalledBack_60 : decode cX3_isCalledBack 60 = .ok (.iconst 0, 1) := dk_3 (dk_at dksX3_isCalledBack_2 13 rfl rfl)
theorem dX3_isCalledBack_61 : decode cX3_isCalledBack 61 = .ok (.istore_n 3, 1) := dk_62 (dk_at dksX3_isCalledBack_2 14 rfl rfl)
theorem dX3_isCalledBack_62 : decode cX3_isCalledBack 62 = .ok (.iinc 4 1, 3) := dk_132 4 1 (dk_at dksX3_isCalledBack_2 15 rfl rfl)
theorem dX3_isCalledBack_65 : decode cX3_isCalledBack 65 = .ok (.goto (-43), 3) := dk_167 255 213 (dk_at dksX3_isCalledBack_2 18 rfl rfl)
theorem dX3_isCalledBack_68 : decode cX3_isCalledBack 68 = .ok (.iload_n 3, 1) := dk_29 (dk_at dksX3_isCalledBack_2 21 rfl rfl)
theorem dX3_isCalledBack_69 : decode cX3_isCalledBack 69 = .ok (.ireturn, 1) := dk_172 (dk_at dksX3_isCalledBack_2 22 rfl rfl)
abbrev cX3_bearsOne : ByteArray := prog_26_method_83_code
def yX3_bearsOne : MethodName := ⟨RX3, "bearsOne", "(I)Z"⟩
def dkwX3_bearsOne_3 : List UInt8 := [42, 180, 0, 28, 27, 51, 153, 0, 11, 28, 153, 0, 7, 4, 167, 0, 4, 3, 172]
abbrev dktX3_bearsOne_3 : List UInt8 := dkwX3_bearsOne_3 ++ []
def dkwX3_bearsOne_2 : List UInt8 := [180, 0, 140, 29, 46, 182, 0, 237, 27, 160, 0, 7, 4, 167, 0, 4, 3, 61, 132, 3, 1, 167, 255, 195]
abbrev dktX3_bearsOne_2 : List UInt8 := dkwX3_bearsOne_2 ++ dktX3_bearsOne_3
def dkwX3_bearsOne_1 : List UInt8 := [153, 0, 38, 42, 180, 0, 149, 29, 46, 16, 252, 159, 0, 27, 42, 42, 180, 0, 119, 29, 46, 42]
abbrev dktX3_bearsOne_1 : List UInt8 := dkwX3_bearsOne_1 ++ dktX3_bearsOne_2
def dkwX3_bearsOne_0 : List UInt8 := [3, 61, 3, 62, 29, 42, 180, 1, 193, 162, 0, 59, 28, 154, 0, 43, 42, 180, 0, 131, 29, 51]
abbrev dktX3_bearsOne_0 : List UInt8 := dkwX3_bearsOne_0 ++ dktX3_bearsOne_1
theorem dksX3_bearsOne_0 : cX3_bearsOne.data.toList.drop 0 = dktX3_bearsOne_0 := by decide +kernel
theorem dksX3_bearsOne_1 : cX3_bearsOne.data.toList.drop 22 = dktX3_bearsOne_1 := dk_seg dksX3_bearsOne_0 22 rfl rfl
theorem dksX3_bearsOne_2 : cX3_bearsOne.data.toList.drop 44 = dktX3_bearsOne_2 := dk_seg dksX3_bearsOne_1 22 rfl rfl
theorem dksX3_bearsOne_3 : cX3_bearsOne.data.toList.drop 68 = dktX3_bearsOne_3 := dk_seg dksX3_bearsOne_2 24 rfl rfl
theorem dX3_bearsOne_0 : decode cX3_bearsOne 0 = .ok (.iconst 0, 1) := dk_3 (dk_at dksX3_bearsOne_0 0 rfl rfl)
theorem dX3_bearsOne_1 : decode cX3_bearsOne 1 = .ok (.istore_n 2, 1) := dk_61 (dk_at dksX3_bearsOne_0 1 rfl rfl)
theorem dX3_bearsOne_2 : decode cX3_bearsOne 2 = .ok (.iconst 0, 1) := dk_3 (dk_at dksX3_bearsOne_0 2 rfl rfl)
theorem dX3_bearsOne_3 : decode cX3_bearsOne 3 = .ok (.istore_n 3, 1) := dk_62 (dk_at dksX3_bearsOne_0 3 rfl rfl)
theorem dX3_bearsOne_4 : decode cX3_bearsOne 4 = .ok (.iload_n 3, 1) := dk_29 (dk_at dksX3_bearsOne_0 4 rfl rfl)
theorem dX3_bearsOne_5 : decode cX3_bearsOne 5 = .ok (.aload_n 0, 1) := dk_42 (dk_at dksX3_bearsOne_0 5 rfl rfl)
theorem dX3_bearsOne_6 : decode cX3_bearsOne 6 = .ok (.getfield 449, 3) := dk_180 1 193 (dk_at dksX3_bearsOne_0 6 rfl rfl)
theorem dX3_bearsOne_9 : decode cX3_bearsOne 9 = .ok (.if_icmp .ge 59, 3) := dk_162 0 59 (dk_at dksX3_bearsOne_0 9 rfl rfl)
theorem dX3_bearsOne_12 : decode cX3_bearsOne 12 = .ok (.iload_n 2, 1) := dk_28 (dk_at dksX3_bearsOne_0 12 rfl rfl)
theorem dX3_bearsOne_13 : decode cX3_bearsOne 13 = .ok (.ifCond .ne 43, 3) := dk_154 0 43 (dk_at dksX3_bearsOne_0 13 rfl rfl)
theorem dX3_bearsOne_16 : decode cX3_bearsOne 16 = .ok (.aload_n 0, 1) := dk_42 (dk_at dksX3_bearsOne_0 16 rfl rfl)
theorem dX3_bearsOne_17 : decode cX3_bearsOne 17 = .ok (.getfield 131, 3) := dk_180 0 131 (dk_at dksX3_bearsOne_0 17 rfl rfl)
theorem dX3_bearsOne_20 : decode cX3_bearsOne 20 = .ok (.iload_n 3, 1) := dk_29 (dk_at dksX3_bearsOne_0 20 rfl rfl)
theorem dX3_bearsOne_21 : decode cX3_bearsOne 21 = .ok (.baload, 1) := dk_51 (dk_at dksX3_bearsOne_0 21 rfl rfl)
theorem dX3_bearsOne_22 : decode cX3_bearsOne 22 = .ok (.ifCond .eq 38, 3) := dk_153 0 38 (dk_at dksX3_bearsOne_1 0 rfl rfl)
theorem dX3_bearsOne_25 : decode cX3_bearsOne 25 = .ok (.aload_n 0, 1) := dk_42 (dk_at dksX3_bearsOne_1 3 rfl rfl)
theorem dX3_bearsOne_26 : decode cX3_bearsOne 26 = .ok (.getfield 149, 3) := dk_180 0 149 (dk_at dksX3_bearsOne_1 4 rfl rfl)
theorem dX3_bearsOne_29 : decode cX3_bearsOne 29 = .ok (.iload_n 3, 1) := dk_29 (dk_at dksX3_bearsOne_1 7 rfl rfl)
theorem dX3_bearsOne_30 : decode cX3_bearsOne 30 = .ok (.iaload, 1) := dk_46 (dk_at dksX3_bearsOne_1 8 rfl rfl)
theorem dX3_bearsOne_31 : decode cX3_bearsOne 31 = .ok (.bipush (-4), 2) := dk_16 252 (dk_at dksX3_bearsOne_1 9 rfl rfl)
theorem dX3_bearsOne_33 : decode cX3_bearsOne 33 = .ok (.if_icmp .eq 27, 3) := dk_159 0 27 (dk_at dksX3_bearsOne_1 11 rfl rfl)
theorem dX3_bearsOne_36 : decode cX3_bearsOne 36 = .ok (.aload_n 0, 1) := dk_42 (dk_at dksX3_bearsOne_1 14 rfl rfl)
theorem dX3_bearsOne_37 : decode cX3_bearsOne 37 = .ok (.aload_n 0, 1) := dk_42 (dk_at dksX3_bearsOne_1 15 rfl rfl)
theorem dX3_bearsOne_38 : decode cX3_bearsOne 38 = .ok (.getfield 119, 3) := dk_180 0 119 (dk_at dksX3_bearsOne_1 16 rfl rfl)
theorem dX3_bearsOne_41 : decode cX3_bearsOne 41 = .ok (.iload_n 3, 1) := dk_29 (dk_at dksX3_bearsOne_1 19 rfl rfl)
theorem dX3_bearsOne_42 : decode cX3_bearsOne 42 = .ok (.iaload, 1) := dk_46 (dk_at dksX3_bearsOne_1 20 rfl rfl)
theorem dX3_bearsOne_43 : decode cX3_bearsOne 43 = .ok (.aload_n 0, 1) := dk_42 (dk_at dksX3_bearsOne_1 21 rfl rfl)
theorem dX3_bearsOne_44 : decode cX3_bearsOne 44 = .ok (.getfield 140, 3) := dk_180 0 140 (dk_at dksX3_bearsOne_2 0 rfl rfl)
theorem dX3_bearsOne_47 : decode cX3_bearsOne 47 = .ok (.iload_n 3, 1) := dk_29 (dk_at dksX3_bearsOne_2 3 rfl rfl)
theorem dX3_bearsOne_48 : decode cX3_bearsOne 48 = .ok (.iaload, 1) := dk_46 (dk_at dksX3_bearsOne_2 4 rfl rfl)
theorem dX3_bearsOne_49 : decode cX3_bearsOne 49 = .ok (.invokevirtual 237, 3) := dk_182 0 237 (dk_at dksX3_bearsOne_2 5 rfl rfl)
theorem dX3_bearsOne_52 : decode cX3_bearsOne 52 = .ok (.iload_n 1, 1) := dk_27 (dk_at dksX3_bearsOne_2 8 rfl rfl)
theorem dX3_bearsOne_53 : decode cX3_bearsOne 53 = .ok (.if_icmp .ne 7, 3) := dk_160 0 7 (dk_at dksX3_bearsOne_2 9 rfl rfl)
theorem dX3_bearsOne_56 : decode cX3_bearsOne 56 = .ok (.iconst 1, 1) := dk_4 (dk_at dksX3_bearsOne_2 12 rfl rfl)
theorem dX3_bearsOne_57 : decode cX3_bearsOne 57 = .ok (.goto 4, 3) := dk_167 0 4 (dk_at dksX3_bearsOne_2 13 rfl rfl)
theorem dX3_bearsOne_60 : decode cX3_bearsOne 60 = .ok (.iconst 0, 1) := dk_3 (dk_at dksX3_bearsOne_2 16 rfl rfl)
theorem dX3_bearsOne_61 : decode cX3_bearsOne 61 = .ok (.istore_n 2, 1) := dk_61 (dk_at dksX3_bearsOne_2 17 rfl rfl)
theorem dX3_bearsOne_62 : decode cX3_bearsOne 62 = .ok (.iinc 3 1, 3) := dk_132 3 1 (dk_at dksX3_bearsOne_2 18 rfl rfl)
theorem dX3_bearsOne_65 : decode cX3_bearsOne 65 = .ok (.goto (-61), 3) := dk_167 255 195 (dk_at dksX3_bearsOne_2 21 rfl rfl)
theorem dX3_bearsOne_68 : decode cX3_bearsOne 68 = .ok (.aload_n 0, 1) := dk_42 (dk_at dksX3_bearsOne_3 0 rfl rfl)
theorem dX3_bearsOne_69 : decode cX3_bearsOne 69 = .ok (.getfield 28, 3) := dk_180 0 28 (dk_at dksX3_bearsOne_3 1 rfl rfl)
theorem dX3_bearsOne_72 : decode cX3_bearsOne 72 = .ok (.iload_n 1, 1) := dk_27 (dk_at dksX3_bearsOne_3 4 rfl rfl)
theorem dX3_bearsOne_73 : decode cX3_bearsOne 73 = .ok (.baload, 1) := dk_51 (dk_at dksX3_bearsOne_3 5 rfl rfl)
theorem dX3_bearsOne_74 : decode cX3_bearsOne 74 = .ok (.ifCond .eq 11, 3) := dk_153 0 11 (dk_at dksX3_bearsOne_3 6 rfl rfl)
theorem dX3_bearsOne_77 : decode cX3_bearsOne 77 = .ok (.iload_n 2, 1) := dk_28 (dk_at dksX3_bearsOne_3 9 rfl rfl)
theorem dX3_bearsOne_78 : decode cX3_bearsOne 78 = .ok (.ifCond .eq 7, 3) := dk_153 0 7 (dk_at dksX3_bearsOne_3 10 rfl rfl)
theorem dX3_bearsOne_81 : decode cX3_bearsOne 81 = .ok (.iconst 1, 1) := dk_4 (dk_at dksX3_bearsOne_3 13 rfl rfl)
theorem dX3_bearsOne_82 : decode cX3_bearsOne 82 = .ok (.goto 4, 3) := dk_167 0 4 (dk_at dksX3_bearsOne_3 14 rfl rfl)
theorem dX3_bearsOne_85 : decode cX3_bearsOne 85 = .ok (.iconst 0, 1) := dk_3 (dk_at dksX3_bearsOne_3 17 rfl rfl)
theorem dX3_bearsOne_86 : decode cX3_bearsOne 86 = .ok (.ireturn, 1) := dk_172 (dk_at dksX3_bearsOne_3 18 rfl rfl)
abbrev cX3_stayed : ByteArray := prog_26_method_89_code
def yX3_stayed : MethodName := ⟨RX3, "stayed", "(II)I"⟩
def dkwX3_stayed_2 : List UInt8 := [180, 0, 164, 27, 46, 167, 0, 9, 42, 180, 0, 167, 27, 46, 172]
abbrev dktX3_stayed_2 : List UInt8 := dkwX3_stayed_2 ++ []
def dkwX3_stayed_1 : List UInt8 := [16, 95, 182, 1, 216, 28, 154, 0, 12, 42, 180, 0, 161, 27, 46, 167, 0, 23, 28, 4, 160, 0, 12, 42]
abbrev dktX3_stayed_1 : List UInt8 := dkwX3_stayed_1 ++ dktX3_stayed_2
def dkwX3_stayed_0 : List UInt8 := [42, 27, 182, 0, 226, 153, 0, 15, 28, 133, 9, 20, 1, 5, 184, 0, 214, 154, 0, 5, 2, 172, 42]
abbrev dktX3_stayed_0 : List UInt8 := dkwX3_stayed_0 ++ dktX3_stayed_1
theorem dksX3_stayed_0 : cX3_stayed.data.toList.drop 0 = dktX3_stayed_0 := by decide +kernel
theorem dksX3_stayed_1 : cX3_stayed.data.toList.drop 23 = dktX3_stayed_1 := dk_seg dksX3_stayed_0 23 rfl rfl
theorem dksX3_stayed_2 : cX3_stayed.data.toList.drop 47 = dktX3_stayed_2 := dk_seg dksX3_stayed_1 24 rfl rfl
theorem dX3_stayed_0 : decode cX3_stayed 0 = .ok (.aload_n 0, 1) := dk_42 (dk_at dksX3_stayed_0 0 rfl rfl)
theorem dX3_stayed_1 : decode cX3_stayed 1 = .ok (.iload_n 1, 1) := dk_27 (dk_at dksX3_stayed_0 1 rfl rfl)
theorem dX3_stayed_2 : decode cX3_stayed 2 = .ok (.invokevirtual 226, 3) := dk_182 0 226 (dk_at dksX3_stayed_0 2 rfl rfl)
theorem dX3_stayed_5 : decode cX3_stayed 5 = .ok (.ifCond .eq 15, 3) := dk_153 0 15 (dk_at dksX3_stayed_0 5 rfl rfl)
theorem dX3_stayed_8 : decode cX3_stayed 8 = .ok (.iload_n 2, 1) := dk_28 (dk_at dksX3_stayed_0 8 rfl rfl)
theorem dX3_stayed_9 : decode cX3_stayed 9 = .ok (.i2l, 1) := dk_133 (dk_at dksX3_stayed_0 9 rfl rfl)
theorem dX3_stayed_10 : decode cX3_stayed 10 = .ok (.lconst 0, 1) := dk_9 (dk_at dksX3_stayed_0 10 rfl rfl)
theorem dX3_stayed_11 : decode cX3_stayed 11 = .ok (.ldc2_w 261, 3) := dk_20 1 5 (dk_at dksX3_stayed_0 11 rfl rfl)
theorem dX3_stayed_14 : decode cX3_stayed 14 = .ok (.invokestatic 214, 3) := dk_184 0 214 (dk_at dksX3_stayed_0 14 rfl rfl)
theorem dX3_stayed_17 : decode cX3_stayed 17 = .ok (.ifCond .ne 5, 3) := dk_154 0 5 (dk_at dksX3_stayed_0 17 rfl rfl)
theorem dX3_stayed_20 : decode cX3_stayed 20 = .ok (.iconst (-1), 1) := dk_2 (dk_at dksX3_stayed_0 20 rfl rfl)
theorem dX3_stayed_21 : decode cX3_stayed 21 = .ok (.ireturn, 1) := dk_172 (dk_at dksX3_stayed_0 21 rfl rfl)
theorem dX3_stayed_22 : decode cX3_stayed 22 = .ok (.aload_n 0, 1) := dk_42 (dk_at dksX3_stayed_0 22 rfl rfl)
theorem dX3_stayed_23 : decode cX3_stayed 23 = .ok (.bipush 95, 2) := dk_16 95 (dk_at dksX3_stayed_1 0 rfl rfl)
theorem dX3_stayed_25 : decode cX3_stayed 25 = .ok (.invokevirtual 472, 3) := dk_182 1 216 (dk_at dksX3_stayed_1 2 rfl rfl)
theorem dX3_stayed_28 : decode cX3_stayed 28 = .ok (.iload_n 2, 1) := dk_28 (dk_at dksX3_stayed_1 5 rfl rfl)
theorem dX3_stayed_29 : decode cX3_stayed 29 = .ok (.ifCond .ne 12, 3) := dk_154 0 12 (dk_at dksX3_stayed_1 6 rfl rfl)
theorem dX3_stayed_32 : decode cX3_stayed 32 = .ok (.aload_n 0, 1) := dk_42 (dk_at dksX3_stayed_1 9 rfl rfl)
theorem dX3_stayed_33 : decode cX3_stayed 33 = .ok (.getfield 161, 3) := dk_180 0 161 (dk_at dksX3_stayed_1 10 rfl rfl)
theorem dX3_stayed_36 : decode cX3_stayed 36 = .ok (.iload_n 1, 1) := dk_27 (dk_at dksX3_stayed_1 13 rfl rfl)
theorem dX3_stayed_37 : decode cX3_stayed 37 = .ok (.iaload, 1) := dk_46 (dk_at dksX3_stayed_1 14 rfl rfl)
theorem dX3_stayed_38 : decode cX3_stayed 38 = .ok (.goto 23, 3) := dk_167 0 23 (dk_at dksX3_stayed_1 15 rfl rfl)
theorem dX3_stayed_41 : decode cX3_stayed 41 = .ok (.iload_n 2, 1) := dk_28 (dk_at dksX3_stayed_1 18 rfl rfl)
theorem dX3_stayed_42 : decode cX3_stayed 42 = .ok (.iconst 1, 1) := dk_4 (dk_at dksX3_stayed_1 19 rfl rfl)
theorem dX3_stayed_43 : decode cX3_stayed 43 = .ok (.if_icmp .ne 12, 3) := dk_160 0 12 (dk_at dksX3_stayed_1 20 rfl rfl)
theorem dX3_stayed_46 : decode cX3_stayed 46 = .ok (.aload_n 0, 1) := dk_42 (dk_at dksX3_stayed_1 23 rfl rfl)
theorem dX3_stayed_47 : decode cX3_stayed 47 = .ok (.getfield 164, 3) := dk_180 0 164 (dk_at dksX3_stayed_2 0 rfl rfl)
theorem dX3_stayed_50 : decode cX3_stayed 50 = .ok (.iload_n 1, 1) := dk_27 (dk_at dksX3_stayed_2 3 rfl rfl)
theorem dX3_stayed_51 : decode cX3_stayed 51 = .ok (.iaload, 1) := dk_46 (dk_at dksX3_stayed_2 4 rfl rfl)
theorem dX3_stayed_52 : decode cX3_stayed 52 = .ok (.goto 9, 3) := dk_167 0 9 (dk_at dksX3_stayed_2 5 rfl rfl)
theorem dX3_stayed_55 : decode cX3_stayed 55 = .ok (.aload_n 0, 1) := dk_42 (dk_at dksX3_stayed_2 8 rfl rfl)
theorem dX3_stayed_56 : decode cX3_stayed 56 = .ok (.getfield 167, 3) := dk_180 0 167 (dk_at dksX3_stayed_2 9 rfl rfl)
theorem dX3_stayed_59 : decode cX3_stayed 59 = .ok (.iload_n 1, 1) := dk_27 (dk_at dksX3_stayed_2 12 rfl rfl)
theorem dX3_stayed_60 : decode cX3_stayed 60 = .ok (.iaload, 1) := dk_46 (dk_at dksX3_stayed_2 13 rfl rfl)
theorem dX3_stayed_61 : decode cX3_stayed 61 = .ok (.ireturn, 1) := dk_172 (dk_at dksX3_stayed_2 14 rfl rfl)
abbrev cX3_at : ByteArray := prog_26_method_91_code
def yX3_at : MethodName := ⟨RX3, "at", "(II)I"⟩
def dkwX3_at_1 : List UInt8 := [184, 0, 214, 154, 0, 5, 2, 172, 42, 28, 182, 1, 216, 42, 27, 182, 1, 219, 172]
abbrev dktX3_at_1 : List UInt8 := dkwX3_at_1 ++ []
def dkwX3_at_0 : List UInt8 := [27, 133, 9, 42, 180, 1, 193, 4, 100, 133, 184, 0, 214, 153, 0, 15, 28, 133, 9, 20, 1, 19]
abbrev dktX3_at_0 : List UInt8 := dkwX3_at_0 ++ dktX3_at_1
theorem dksX3_at_0 : cX3_at.data.toList.drop 0 = dktX3_at_0 := by decide +kernel
theorem dksX3_at_1 : cX3_at.data.toList.drop 22 = dktX3_at_1 := dk_seg dksX3_at_0 22 rfl rfl
theorem dX3_at_0 : decode cX3_at 0 = .ok (.iload_n 1, 1) := dk_27 (dk_at dksX3_at_0 0 rfl rfl)
theorem dX3_at_1 : decode cX3_at 1 = .ok (.i2l, 1) := dk_133 (dk_at dksX3_at_0 1 rfl rfl)
theorem dX3_at_2 : decode cX3_at 2 = .ok (.lconst 0, 1) := dk_9 (dk_at dksX3_at_0 2 rfl rfl)
theorem dX3_at_3 : decode cX3_at 3 = .ok (.aload_n 0, 1) := dk_42 (dk_at dksX3_at_0 3 rfl rfl)
theorem dX3_at_4 : decode cX3_at 4 = .ok (.getfield 449, 3) := dk_180 1 193 (dk_at dksX3_at_0 4 rfl rfl)
theorem dX3_at_7 : decode cX3_at 7 = .ok (.iconst 1, 1) := dk_4 (dk_at dksX3_at_0 7 rfl rfl)
theorem dX3_at_8 : decode cX3_at 8 = .ok (.isub, 1) := dk_100 (dk_at dksX3_at_0 8 rfl rfl)
theorem dX3_at_9 : decode cX3_at 9 = .ok (.i2l, 1) := dk_133 (dk_at dksX3_at_0 9 rfl rfl)
theorem dX3_at_10 : decode cX3_at 10 = .ok (.invokestatic 214, 3) := dk_184 0 214 (dk_at dksX3_at_0 10 rfl rfl)
theorem dX3_at_13 : decode cX3_at 13 = .ok (.ifCond .eq 15, 3) := dk_153 0 15 (dk_at dksX3_at_0 13 rfl rfl)
theorem dX3_at_16 : decode cX3_at 16 = .ok (.iload_n 2, 1) := dk_28 (dk_at dksX3_at_0 16 rfl rfl)
theorem dX3_at_17 : decode cX3_at 17 = .ok (.i2l, 1) := dk_133 (dk_at dksX3_at_0 17 rfl rfl)
theorem dX3_at_18 : decode cX3_at 18 = .ok (.lconst 0, 1) := dk_9 (dk_at dksX3_at_0 18 rfl rfl)
theorem dX3_at_19 : decode cX3_at 19 = .ok (.ldc2_w 275, 3) := dk_20 1 19 (dk_at dksX3_at_0 19 rfl rfl)
theorem dX3_at_22 : decode cX3_at 22 = .ok (.invokestatic 214, 3) := dk_184 0 214 (dk_at dksX3_at_1 0 rfl rfl)
theorem dX3_at_25 : decode cX3_at 25 = .ok (.ifCond .ne 5, 3) := dk_154 0 5 (dk_at dksX3_at_1 3 rfl rfl)
theorem dX3_at_28 : decode cX3_at 28 = .ok (.iconst (-1), 1) := dk_2 (dk_at dksX3_at_1 6 rfl rfl)
theorem dX3_at_29 : decode cX3_at 29 = .ok (.ireturn, 1) := dk_172 (dk_at dksX3_at_1 7 rfl rfl)
theorem dX3_at_30 : decode cX3_at 30 = .ok (.aload_n 0, 1) := dk_42 (dk_at dksX3_at_1 8 rfl rfl)
theorem dX3_at_31 : decode cX3_at 31 = .ok (.iload_n 2, 1) := dk_28 (dk_at dksX3_at_1 9 rfl rfl)
theorem dX3_at_32 : decode cX3_at 32 = .ok (.invokevirtual 472, 3) := dk_182 1 216 (dk_at dksX3_at_1 10 rfl rfl)
theorem dX3_at_35 : decode cX3_at 35 = .ok (.aload_n 0, 1) := dk_42 (dk_at dksX3_at_1 13 rfl rfl)
theorem dX3_at_36 : decode cX3_at 36 = .ok (.iload_n 1, 1) := dk_27 (dk_at dksX3_at_1 14 rfl rfl)
theorem dX3_at_37 : decode cX3_at 37 = .ok (.invokevirtual 475, 3) := dk_182 1 219 (dk_at dksX3_at_1 15 rfl rfl)
theorem dX3_at_40 : decode cX3_at 40 = .ok (.ireturn, 1) := dk_172 (dk_at dksX3_at_1 18 rfl rfl)
abbrev cX3_where : ByteArray := prog_26_method_90_code
def yX3_where : MethodName := ⟨RX3, "where", "(I)I"⟩
def dkwX3_where_2 : List UInt8 := [167, 0, 9, 42, 180, 0, 143, 27, 46, 172]
abbrev dktX3_where_2 : List UInt8 := dkwX3_where_2 ++ []
def dkwX3_where_1 : List UInt8 := [159, 0, 25, 16, 100, 42, 42, 180, 0, 119, 27, 46, 42, 180, 0, 140, 27, 46, 182, 0, 237, 96]
abbrev dktX3_where_1 : List UInt8 := dkwX3_where_1 ++ dktX3_where_2
def dkwX3_where_0 : List UInt8 := [42, 180, 0, 131, 27, 51, 154, 0, 8, 16, 252, 167, 0, 42, 42, 180, 0, 149, 27, 46, 16, 252]
abbrev dktX3_where_0 : List UInt8 := dkwX3_where_0 ++ dktX3_where_1
theorem dksX3_where_0 : cX3_where.data.toList.drop 0 = dktX3_where_0 := by decide +kernel
theorem dksX3_where_1 : cX3_where.data.toList.drop 22 = dktX3_where_1 := dk_seg dksX3_where_0 22 rfl rfl
theorem dksX3_where_2 : cX3_where.data.toList.drop 44 = dktX3_where_2 := dk_seg dksX3_where_1 22 rfl rfl
theorem dX3_where_0 : decode cX3_where 0 = .ok (.aload_n 0, 1) := dk_42 (dk_at dksX3_where_0 0 rfl rfl)
theorem dX3_where_1 : decode cX3_where 1 = .ok (.getfield 131, 3) := dk_180 0 131 (dk_at dksX3_where_0 1 rfl rfl)
theorem dX3_where_4 : decode cX3_where 4 = .ok (.iload_n 1, 1) := dk_27 (dk_at dksX3_where_0 4 rfl rfl)
theorem dX3_where_5 : decode cX3_where 5 = .ok (.baload, 1) := dk_51 (dk_at dksX3_where_0 5 rfl rfl)
theorem dX3_where_6 : decode cX3_where 6 = .ok (.ifCond .ne 8, 3) := dk_154 0 8 (dk_at dksX3_where_0 6 rfl rfl)
theorem dX3_where_9 : decode cX3_where 9 = .ok (.bipush (-4), 2) := dk_16 252 (dk_at dksX3_where_0 9 rfl rfl)
theorem dX3_where_11 : decode cX3_where 11 = .ok (.goto 42, 3) := dk_167 0 42 (dk_at dksX3_where_0 11 rfl rfl)
theorem dX3_where_14 : decode cX3_where 14 = .ok (.aload_n 0, 1) := dk_42 (dk_at dksX3_where_0 14 rfl rfl)
theorem dX3_where_15 : decode cX3_where 15 = .ok (.getfield 149, 3) := dk_180 0 149 (dk_at dksX3_where_0 15 rfl rfl)
theorem dX3_where_18 : decode cX3_where 18 = .ok (.iload_n 1, 1) := dk_27 (dk_at dksX3_where_0 18 rfl rfl)
theorem dX3_where_19 : decode cX3_where 19 = .ok (.iaload, 1) := dk_46 (dk_at dksX3_where_0 19 rfl rfl)
theorem dX3_where_20 : decode cX3_where 20 = .ok (.bipush (-4), 2) := dk_16 252 (dk_at dksX3_where_0 20 rfl rfl)
theorem dX3_where_22 : decode cX3_where 22 = .ok (.if_icmp .eq 25, 3) := dk_159 0 25 (dk_at dksX3_where_1 0 rfl rfl)
theorem dX3_where_25 : decode cX3_where 25 = .ok (.bipush 100, 2) := dk_16 100 (dk_at dksX3_where_1 3 rfl rfl)
theorem dX3_where_27 : decode cX3_where 27 = .ok (.aload_n 0, 1) := dk_42 (dk_at dksX3_where_1 5 rfl rfl)
theorem dX3_where_28 : decode cX3_where 28 = .ok (.aload_n 0, 1) := dk_42 (dk_at dksX3_where_1 6 rfl rfl)
theorem dX3_where_29 : decode cX3_where 29 = .ok (.getfield 119, 3) := dk_180 0 119 (dk_at dksX3_where_1 7 rfl rfl)
theorem dX3_where_32 : decode cX3_where 32 = .ok (.iload_n 1, 1) := dk_27 (dk_at dksX3_where_1 10 rfl rfl)
theorem dX3_where_33 : decode cX3_where 33 = .ok (.iaload, 1) := dk_46 (dk_at dksX3_where_1 11 rfl rfl)
theorem dX3_where_34 : decode cX3_where 34 = .ok (.aload_n 0, 1) := dk_42 (dk_at dksX3_where_1 12 rfl rfl)
theorem dX3_where_35 : decode cX3_where 35 = .ok (.getfield 140, 3) := dk_180 0 140 (dk_at dksX3_where_1 13 rfl rfl)
theorem dX3_where_38 : decode cX3_where 38 = .ok (.iload_n 1, 1) := dk_27 (dk_at dksX3_where_1 16 rfl rfl)
theorem dX3_where_39 : decode cX3_where 39 = .ok (.iaload, 1) := dk_46 (dk_at dksX3_where_1 17 rfl rfl)
theorem dX3_where_40 : decode cX3_where 40 = .ok (.invokevirtual 237, 3) := dk_182 0 237 (dk_at dksX3_where_1 18 rfl rfl)
theorem dX3_where_43 : decode cX3_where 43 = .ok (.iadd, 1) := dk_96 (dk_at dksX3_where_1 21 rfl rfl)
theorem dX3_where_44 : decode cX3_where 44 = .ok (.goto 9, 3) := dk_167 0 9 (dk_at dksX3_where_2 0 rfl rfl)
theorem dX3_where_47 : decode cX3_where 47 = .ok (.aload_n 0, 1) := dk_42 (dk_at dksX3_where_2 3 rfl rfl)
theorem dX3_where_48 : decode cX3_where 48 = .ok (.getfield 143, 3) := dk_180 0 143 (dk_at dksX3_where_2 4 rfl rfl)
theorem dX3_where_51 : decode cX3_where 51 = .ok (.iload_n 1, 1) := dk_27 (dk_at dksX3_where_2 7 rfl rfl)
theorem dX3_where_52 : decode cX3_where 52 = .ok (.iaload, 1) := dk_46 (dk_at dksX3_where_2 8 rfl rfl)
theorem dX3_where_53 : decode cX3_where 53 = .ok (.ireturn, 1) := dk_172 (dk_at dksX3_where_2 9 rfl rfl)
abbrev cX3_near : ByteArray := prog_26_method_92_code
def yX3_near : MethodName := ⟨RX3, "near", "(III)I"⟩
def dkwX3_near_9 : List UInt8 := [167, 0, 14, 29, 154, 0, 8, 21, 5, 167, 0, 5, 21, 4, 172]
abbrev dktX3_near_9 : List UInt8 := dkwX3_near_9 ++ []
def dkwX3_near_8 : List UInt8 := [21, 6, 96, 54, 4, 21, 8, 54, 5, 132, 6, 1, 167, 255, 176, 21, 4, 16, 252, 160, 0, 8, 16, 252]
abbrev dktX3_near_8 : List UInt8 := dkwX3_near_8 ++ dktX3_near_9
def dkwX3_near_7 : List UInt8 := [167, 0, 5, 16, 252, 54, 8, 21, 8, 16, 252, 159, 0, 21, 21, 8, 21, 5, 162, 0, 14, 16, 100]
abbrev dktX3_near_7 : List UInt8 := dkwX3_near_7 ++ dktX3_near_8
def dkwX3_near_6 : List UInt8 := [20, 1, 222, 184, 0, 214, 153, 0, 21, 42, 21, 7, 27, 42, 180, 0, 122, 21, 6, 46, 28, 182, 1, 27]
abbrev dktX3_near_6 : List UInt8 := dkwX3_near_6 ++ dktX3_near_7
def dkwX3_near_5 : List UInt8 := [3, 54, 6, 21, 6, 42, 180, 1, 193, 162, 0, 77, 42, 21, 6, 182, 1, 219, 54, 7, 21, 7, 133, 9]
abbrev dktX3_near_5 : List UInt8 := dkwX3_near_5 ++ dktX3_near_6
def dkwX3_near_4 : List UInt8 := [159, 0, 18, 21, 7, 21, 5, 162, 0, 11, 21, 6, 54, 4, 21, 7, 54, 5, 132, 6, 1, 167, 255, 191]
abbrev dktX3_near_4 : List UInt8 := dkwX3_near_4 ++ dktX3_near_5
def dkwX3_near_3 : List UInt8 := [167, 0, 17, 42, 3, 27, 42, 180, 0, 56, 21, 6, 46, 28, 182, 1, 27, 54, 7, 21, 7, 16, 252]
abbrev dktX3_near_3 : List UInt8 := dkwX3_near_3 ++ dktX3_near_4
def dkwX3_near_2 : List UInt8 := [54, 6, 21, 6, 42, 180, 1, 31, 162, 0, 62, 42, 180, 0, 62, 21, 6, 51, 153, 0, 8, 16, 252]
abbrev dktX3_near_2 : List UInt8 := dkwX3_near_2 ++ dktX3_near_3
def dkwX3_near_1 : List UInt8 := [184, 0, 214, 154, 0, 5, 2, 172, 42, 28, 182, 1, 216, 16, 252, 54, 4, 17, 3, 232, 54, 5, 3]
abbrev dktX3_near_1 : List UInt8 := dkwX3_near_1 ++ dktX3_near_2
def dkwX3_near_0 : List UInt8 := [42, 27, 182, 0, 226, 153, 0, 25, 28, 133, 9, 20, 1, 19, 184, 0, 214, 153, 0, 13, 29, 133, 9, 10]
abbrev dktX3_near_0 : List UInt8 := dkwX3_near_0 ++ dktX3_near_1
theorem dksX3_near_0 : cX3_near.data.toList.drop 0 = dktX3_near_0 := by decide +kernel
theorem dksX3_near_1 : cX3_near.data.toList.drop 24 = dktX3_near_1 := dk_seg dksX3_near_0 24 rfl rfl
theorem dksX3_near_2 : cX3_near.data.toList.drop 47 = dktX3_near_2 := dk_seg dksX3_near_1 23 rfl rfl
theorem dksX3_near_3 : cX3_near.data.toList.drop 70 = dktX3_near_3 := dk_seg dksX3_near_2 23 rfl rfl
theorem dksX3_near_4 : cX3_near.data.toList.drop 93 = dktX3_near_4 := dk_seg dksX3_near_3 23 rfl rfl
theorem dksX3_near_5 : cX3_near.data.toList.drop 117 = dktX3_near_5 := dk_seg dksX3_near_4 24 rfl rfl
theorem dksX3_near_6 : cX3_near.data.toList.drop 141 = dktX3_near_6 := dk_seg dksX3_near_5 24 rfl rfl
theorem dksX3_near_7 : cX3_near.data.toList.drop 165 = dktX3_near_7 := dk_seg dksX3_near_6 24 rfl rfl
theorem dksX3_near_8 : cX3_near.data.toList.drop 188 = dktX3_near_8 := dk_seg dksX3_near_7 23 rfl rfl
theorem dksX3_near_9 : cX3_near.data.toList.drop 212 = dktX3_near_9 := dk_seg dksX3_near_8 24 rfl rfl
theorem dX3_near_0 : decode cX3_near 0 = .ok (.aload_n 0, 1) := dk_42 (dk_at dksX3_near_0 0 rfl rfl)
theorem dX3_near_1 : decode cX3_near 1 = .ok (.iload_n 1, 1) := dk_27 (dk_at dksX3_near_0 1 rfl rfl)
theorem dX3_near_2 : decode cX3_near 2 = .ok (.invokevirtual 226, 3) := dk_182 0 226 (dk_at dksX3_near_0 2 rfl rfl)
theorem dX3_near_5 : decode cX3_near 5 = .ok (.ifCond .eq 25, 3) := dk_153 0 25 (dk_at dksX3_near_0 5 rfl rfl)
theorem dX3_near_8 : decode cX3_near 8 = .ok (.iload_n 2, 1) := dk_28 (dk_at dksX3_near_0 8 rfl rfl)
theorem dX3_near_9 : decode cX3_near 9 = .ok (.i2l, 1) := dk_133 (dk_at dksX3_near_0 9 rfl rfl)
theorem dX3_near_10 : decode cX3_near 10 = .ok (.lconst 0, 1) := dk_9 (dk_at dksX3_near_0 10 rfl rfl)
theorem dX3_near_11 : decode cX3_near 11 = .ok (.ldc2_w 275, 3) := dk_20 1 19 (dk_at dksX3_near_0 11 rfl rfl)
theorem dX3_near_14 : decode cX3_near 14 = .ok (.invokestatic 214, 3) := dk_184 0 214 (dk_at dksX3_near_0 14 rfl rfl)
theorem dX3_near_17 : decode cX3_near 17 = .ok (.ifCond .eq 13, 3) := dk_153 0 13 (dk_at dksX3_near_0 17 rfl rfl)
theorem dX3_near_20 : decode cX3_near 20 = .ok (.iload_n 3, 1) := dk_29 (dk_at dksX3_near_0 20 rfl rfl)
theorem dX3_near_21 : decode cX3_near 21 = .ok (.i2l, 1) := dk_133 (dk_at dksX3_near_0 21 rfl rfl)
theorem dX3_near_22 : decode cX3_near 22 = .ok (.lconst 0, 1) := dk_9 (dk_at dksX3_near_0 22 rfl rfl)
theorem dX3_near_23 : decode cX3_near 23 = .ok (.lconst 1, 1) := dk_10 (dk_at dksX3_near_0 23 rfl rfl)
theorem dX3_near_24 : decode cX3_near 24 = .ok (.invokestatic 214, 3) := dk_184 0 214 (dk_at dksX3_near_1 0 rfl rfl)
theorem dX3_near_27 : decode cX3_near 27 = .ok (.ifCond .ne 5, 3) := dk_154 0 5 (dk_at dksX3_near_1 3 rfl rfl)
theorem dX3_near_30 : decode cX3_near 30 = .ok (.iconst (-1), 1) := dk_2 (dk_at dksX3_near_1 6 rfl rfl)
theorem dX3_near_31 : decode cX3_near 31 = .ok (.ireturn, 1) := dk_172 (dk_at dksX3_near_1 7 rfl rfl)
theorem dX3_near_32 : decode cX3_near 32 = .ok (.aload_n 0, 1) := dk_42 (dk_at dksX3_near_1 8 rfl rfl)
theorem dX3_near_33 : decode cX3_near 33 = .ok (.iload_n 2, 1) := dk_28 (dk_at dksX3_near_1 9 rfl rfl)
theorem dX3_near_34 : decode cX3_near 34 = .ok (.invokevirtual 472, 3) := dk_182 1 216 (dk_at dksX3_near_1 10 rfl rfl)
theorem dX3_near_37 : decode cX3_near 37 = .ok (.bipush (-4), 2) := dk_16 252 (dk_at dksX3_near_1 13 rfl rfl)
theorem dX3_near_39 : decode cX3_near 39 = .ok (.istore 4, 2) := dk_54 4 (dk_at dksX3_near_1 15 rfl rfl)
theorem dX3_near_41 : decode cX3_near 41 = .ok (.sipush 1000, 3) := dk_17 3 232 (dk_at dksX3_near_1 17 rfl rfl)
theorem dX3_near_44 : decode cX3_near 44 = .ok (.istore 5, 2) := dk_54 5 (dk_at dksX3_near_1 20 rfl rfl)
theorem dX3_near_46 : decode cX3_near 46 = .ok (.iconst 0, 1) := dk_3 (dk_at dksX3_near_1 22 rfl rfl)
theorem dX3_near_47 : decode cX3_near 47 = .ok (.istore 6, 2) := dk_54 6 (dk_at dksX3_near_2 0 rfl rfl)
theorem dX3_near_49 : decode cX3_near 49 = .ok (.iload 6, 2) := dk_21 6 (dk_at dksX3_near_2 2 rfl rfl)
theorem dX3_near_51 : decode cX3_near 51 = .ok (.aload_n 0, 1) := dk_42 (dk_at dksX3_near_2 4 rfl rfl)
theorem dX3_near_52 : decode cX3_near 52 = .ok (.getfield 287, 3) := dk_180 1 31 (dk_at dksX3_near_2 5 rfl rfl)
theorem dX3_near_55 : decode cX3_near 55 = .ok (.if_icmp .ge 62, 3) := dk_162 0 62 (dk_at dksX3_near_2 8 rfl rfl)
theorem dX3_near_58 : decode cX3_near 58 = .ok (.aload_n 0, 1) := dk_42 (dk_at dksX3_near_2 11 rfl rfl)
theorem dX3_near_59 : decode cX3_near 59 = .ok (.getfield 62, 3) := dk_180 0 62 (dk_at dksX3_near_2 12 rfl rfl)
theorem dX3_near_62 : decode cX3_near 62 = .ok (.iload 6, 2) := dk_21 6 (dk_at dksX3_near_2 15 rfl rfl)
theorem dX3_near_64 : decode cX3_near 64 = .ok (.baload, 1) := dk_51 (dk_at dksX3_near_2 17 rfl rfl)
theorem dX3_near_65 : decode cX3_near 65 = .ok (.ifCond .eq 8, 3) := dk_153 0 8 (dk_at dksX3_near_2 18 rfl rfl)
theorem dX3_near_68 : decode cX3_near 68 = .ok (.bipush (-4), 2) := dk_16 252 (dk_at dksX3_near_2 21 rfl rfl)
theorem dX3_near_70 : decode cX3_near 70 = .ok (.goto 17, 3) := dk_167 0 17 (dk_at dksX3_near_3 0 rfl rfl)
theorem dX3_near_73 : decode cX3_near 73 = .ok (.aload_n 0, 1) := dk_42 (dk_at dksX3_near_3 3 rfl rfl)
theorem dX3_near_74 : decode cX3_near 74 = .ok (.iconst 0, 1) := dk_3 (dk_at dksX3_near_3 4 rfl rfl)
theorem dX3_near_75 : decode cX3_near 75 = .ok (.iload_n 1, 1) := dk_27 (dk_at dksX3_near_3 5 rfl rfl)
theorem dX3_near_76 : decode cX3_near 76 = .ok (.aload_n 0, 1) := dk_42 (dk_at dksX3_near_3 6 rfl rfl)
theorem dX3_near_77 : decode cX3_near 77 = .ok (.getfield 56, 3) := dk_180 0 56 (dk_at dksX3_near_3 7 rfl rfl)
theorem dX3_near_80 : decode cX3_near 80 = .ok (.iload 6, 2) := dk_21 6 (dk_at dksX3_near_3 10 rfl rfl)
theorem dX3_near_82 : decode cX3_near 82 = .ok (.iaload, 1) := dk_46 (dk_at dksX3_near_3 12 rfl rfl)
theorem dX3_near_83 : decode cX3_near 83 = .ok (.iload_n 2, 1) := dk_28 (dk_at dksX3_near_3 13 rfl rfl)
theorem dX3_near_84 : decode cX3_near 84 = .ok (.invokevirtual 283, 3) := dk_182 1 27 (dk_at dksX3_near_3 14 rfl rfl)
theorem dX3_near_87 : decode cX3_near 87 = .ok (.istore 7, 2) := dk_54 7 (dk_at dksX3_near_3 17 rfl rfl)
theorem dX3_near_89 : decode cX3_near 89 = .ok (.iload 7, 2) := dk_21 7 (dk_at dksX3_near_3 19 rfl rfl)
theorem dX3_near_91 : decode cX3_near 91 = .ok (.bipush (-4), 2) := dk_16 252 (dk_at dksX3_near_3 21 rfl rfl)
theorem dX3_near_93 : decode cX3_near 93 = .ok (.if_icmp .eq 18, 3) := dk_159 0 18 (dk_at dksX3_near_4 0 rfl rfl)
theorem dX3_near_96 : decode cX3_near 96 = .ok (.iload 7, 2) := dk_21 7 (dk_at dksX3_near_4 3 rfl rfl)
theorem dX3_near_98 : decode cX3_near 98 = .ok (.iload 5, 2) := dk_21 5 (dk_at dksX3_near_4 5 rfl rfl)
theorem dX3_near_100 : decode cX3_near 100 = .ok (.if_icmp .ge 11, 3) := dk_162 0 11 (dk_at dksX3_near_4 7 rfl rfl)
theorem dX3_near_103 : decode cX3_near 103 = .ok (.iload 6, 2) := dk_21 6 (dk_at dksX3_near_4 10 rfl rfl)
theorem dX3_near_105 : decode cX3_near 105 = .ok (.istore 4, 2) := dk_54 4 (dk_at dksX3_near_4 12 rfl rfl)
theorem dX3_near_107 : decode cX3_near 107 = .ok (.iload 7, 2) := dk_21 7 (dk_at dksX3_near_4 14 rfl rfl)
theorem dX3_near_109 : decode cX3_near 109 = .ok (.istore 5, 2) := dk_54 5 (dk_at dksX3_near_4 16 rfl rfl)
theorem dX3_near_111 : decode cX3_near 111 = .ok (.iinc 6 1, 3) := dk_132 6 1 (dk_at dksX3_near_4 18 rfl rfl)
theorem dX3_near_114 : decode cX3_near 114 = .ok (.goto (-65), 3) := dk_167 255 191 (dk_at dksX3_near_4 21 rfl rfl)
theorem dX3_near_117 : decode cX3_near 117 = .ok (.iconst 0, 1) := dk_3 (dk_at dksX3_near_5 0 rfl rfl)
theorem dX3_near_118 : decode cX3_near 118 = .ok (.istore 6, 2) := dk_54 6 (dk_at dksX3_near_5 1 rfl rfl)
theorem dX3_near_120 : decode cX3_near 120 = .ok (.iload 6, 2) := dk_21 6 (dk_at dksX3_near_5 3 rfl rfl)
theorem dX3_near_122 : decode cX3_near 122 = .ok (.aload_n 0, 1) := dk_42 (dk_at dksX3_near_5 5 rfl rfl)
theorem dX3_near_123 : decode cX3_near 123 = .ok (.getfield 449, 3) := dk_180 1 193 (dk_at dksX3_near_5 6 rfl rfl)
theorem dX3_near_126 : decode cX3_near 126 = .ok (.if_icmp .ge 77, 3) := dk_162 0 77 (dk_at dksX3_near_5 9 rfl rfl)
theorem dX3_near_129 : decode cX3_near 129 = .ok (.aload_n 0, 1) := dk_42 (dk_at dksX3_near_5 12 rfl rfl)
theorem dX3_near_130 : decode cX3_near 130 = .ok (.iload 6, 2) := dk_21 6 (dk_at dksX3_near_5 13 rfl rfl)
theorem dX3_near_132 : decode cX3_near 132 = .ok (.invokevirtual 475, 3) := dk_182 1 219 (dk_at dksX3_near_5 15 rfl rfl)
theorem dX3_near_135 : decode cX3_near 135 = .ok (.istore 7, 2) := dk_54 7 (dk_at dksX3_near_5 18 rfl rfl)
theorem dX3_near_137 : decode cX3_near 137 = .ok (.iload 7, 2) := dk_21 7 (dk_at dksX3_near_5 20 rfl rfl)
theorem dX3_near_139 : decode cX3_near 139 = .ok (.i2l, 1) := dk_133 (dk_at dksX3_near_5 22 rfl rfl)
theorem dX3_near_140 : decode cX3_near 140 = .ok (.lconst 0, 1) := dk_9 (dk_at dksX3_near_5 23 rfl rfl)
theorem dX3_near_141 : decode cX3_near 141 = .ok (.ldc2_w 478, 3) := dk_20 1 222 (dk_at dksX3_near_6 0 rfl rfl)
theorem dX3_near_144 : decode cX3_near 144 = .ok (.invokestatic 214, 3) := dk_184 0 214 (dk_at dksX3_near_6 3 rfl rfl)
theorem dX3_near_147 : decode cX3_near 147 = .ok (.ifCond .eq 21, 3) := dk_153 0 21 (dk_at dksX3_near_6 6 rfl rfl)
theorem dX3_near_150 : decode cX3_near 150 = .ok (.aload_n 0, 1) := dk_42 (dk_at dksX3_near_6 9 rfl rfl)
theorem dX3_near_151 : decode cX3_near 151 = .ok (.iload 7, 2) := dk_21 7 (dk_at dksX3_near_6 10 rfl rfl)
theorem dX3_near_153 : decode cX3_near 153 = .ok (.iload_n 1, 1) := dk_27 (dk_at dksX3_near_6 12 rfl rfl)
theorem dX3_near_154 : decode cX3_near 154 = .ok (.aload_n 0, 1) := dk_42 (dk_at dksX3_near_6 13 rfl rfl)
theorem dX3_near_155 : decode cX3_near 155 = .ok (.getfield 122, 3) := dk_180 0 122 (dk_at dksX3_near_6 14 rfl rfl)
theorem dX3_near_158 : decode cX3_near 158 = .ok (.iload 6, 2) := dk_21 6 (dk_at dksX3_near_6 17 rfl rfl)
theorem dX3_near_160 : decode cX3_near 160 = .ok (.iaload, 1) := dk_46 (dk_at dksX3_near_6 19 rfl rfl)
theorem dX3_near_161 : decode cX3_near 161 = .ok (.iload_n 2, 1) := dk_28 (dk_at dksX3_near_6 20 rfl rfl)
theorem dX3_near_162 : decode cX3_near 162 = .ok (.invokevirtual 283, 3) := dk_182 1 27 (dk_at dksX3_near_6 21 rfl rfl)
theorem dX3_near_165 : decode cX3_near 165 = .ok (.goto 5, 3) := dk_167 0 5 (dk_at dksX3_near_7 0 rfl rfl)
theorem dX3_near_168 : decode cX3_near 168 = .ok (.bipush (-4), 2) := dk_16 252 (dk_at dksX3_near_7 3 rfl rfl)
theorem dX3_near_170 : decode cX3_near 170 = .ok (.istore 8, 2) := dk_54 8 (dk_at dksX3_near_7 5 rfl rfl)
theorem dX3_near_172 : decode cX3_near 172 = .ok (.iload 8, 2) := dk_21 8 (dk_at dksX3_near_7 7 rfl rfl)
theorem dX3_near_174 : decode cX3_near 174 = .ok (.bipush (-4), 2) := dk_16 252 (dk_at dksX3_near_7 9 rfl rfl)
theorem dX3_near_176 : decode cX3_near 176 = .ok (.if_icmp .eq 21, 3) := dk_159 0 21 (dk_at dksX3_near_7 11 rfl rfl)
theorem dX3_near_179 : decode cX3_near 179 = .ok (.iload 8, 2) := dk_21 8 (dk_at dksX3_near_7 14 rfl rfl)
theorem dX3_near_181 : decode cX3_near 181 = .ok (.iload 5, 2) := dk_21 5 (dk_at dksX3_near_7 16 rfl rfl)
theorem dX3_near_183 : decode cX3_near 183 = .ok (.if_icmp .ge 14, 3) := dk_162 0 14 (dk_at dksX3_near_7 18 rfl rfl)
theorem dX3_near_186 : decode cX3_near 186 = .ok (.bipush 100, 2) := dk_16 100 (dk_at dksX3_near_7 21 rfl rfl)
theorem dX3_near_188 : decode cX3_near 188 = .ok (.iload 6, 2) := dk_21 6 (dk_at dksX3_near_8 0 rfl rfl)
theorem dX3_near_190 : decode cX3_near 190 = .ok (.iadd, 1) := dk_96 (dk_at dksX3_near_8 2 rfl rfl)
theorem dX3_near_191 : decode cX3_near 191 = .ok (.istore 4, 2) := dk_54 4 (dk_at dksX3_near_8 3 rfl rfl)
theorem dX3_near_193 : decode cX3_near 193 = .ok (.iload 8, 2) := dk_21 8 (dk_at dksX3_near_8 5 rfl rfl)
theorem dX3_near_195 : decode cX3_near 195 = .ok (.istore 5, 2) := dk_54 5 (dk_at dksX3_near_8 7 rfl rfl)
theorem dX3_near_197 : decode cX3_near 197 = .ok (.iinc 6 1, 3) := dk_132 6 1 (dk_at dksX3_near_8 9 rfl rfl)
theorem dX3_near_200 : decode cX3_near 200 = .ok (.goto (-80), 3) := dk_167 255 176 (dk_at dksX3_near_8 12 rfl rfl)
theorem dX3_near_203 : decode cX3_near 203 = .ok (.iload 4, 2) := dk_21 4 (dk_at dksX3_near_8 15 rfl rfl)
theorem dX3_near_205 : decode cX3_near 205 = .ok (.bipush (-4), 2) := dk_16 252 (dk_at dksX3_near_8 17 rfl rfl)
theorem dX3_near_207 : decode cX3_near 207 = .ok (.if_icmp .ne 8, 3) := dk_160 0 8 (dk_at dksX3_near_8 19 rfl rfl)
theorem dX3_near_210 : decode cX3_near 210 = .ok (.bipush (-4), 2) := dk_16 252 (dk_at dksX3_near_8 22 rfl rfl)
theorem dX3_near_212 : decode cX3_near 212 = .ok (.goto 14, 3) := dk_167 0 14 (dk_at dksX3_near_9 0 rfl rfl)
theorem dX3_near_215 : decode cX3_near 215 = .ok (.iload_n 3, 1) := dk_29 (dk_at dksX3_near_9 3 rfl rfl)
theorem dX3_near_216 : decode cX3_near 216 = .ok (.ifCond .ne 8, 3) := dk_154 0 8 (dk_at dksX3_near_9 4 rfl rfl)
theorem dX3_near_219 : decode cX3_near 219 = .ok (.iload 5, 2) := dk_21 5 (dk_at dksX3_near_9 7 rfl rfl)
theorem dX3_near_221 : decode cX3_near 221 = .ok (.goto 5, 3) := dk_167 0 5 (dk_at dksX3_near_9 9 rfl rfl)
theorem dX3_near_224 : decode cX3_near 224 = .ok (.iload 4, 2) := dk_21 4 (dk_at dksX3_near_9 12 rfl rfl)
theorem dX3_near_226 : decode cX3_near 226 = .ok (.ireturn, 1) := dk_172 (dk_at dksX3_near_9 14 rfl rfl)
abbrev cX3_entry : ByteArray := prog_26_method_93_code
def yX3_entry : MethodName := ⟨RX3, "entry", "(III)I"⟩
def dkwX3_entry_3 : List UInt8 := [29, 79, 42, 89, 180, 1, 224, 4, 96, 181, 1, 224, 42, 180, 1, 224, 4, 100, 172]
abbrev dktX3_entry_3 : List UInt8 := dkwX3_entry_3 ++ []
def dkwX3_entry_2 : List UInt8 := [42, 180, 1, 224, 27, 79, 42, 180, 0, 176, 42, 180, 1, 224, 28, 79, 42, 180, 0, 179, 42, 180, 1, 224]
abbrev dktX3_entry_2 : List UInt8 := dkwX3_entry_2 ++ dktX3_entry_3
def dkwX3_entry_1 : List UInt8 := [184, 0, 214, 154, 0, 5, 2, 172, 42, 180, 1, 224, 16, 14, 160, 0, 6, 16, 253, 172, 42, 180, 0, 173]
abbrev dktX3_entry_1 : List UInt8 := dkwX3_entry_1 ++ dktX3_entry_2
def dkwX3_entry_0 : List UInt8 := [42, 27, 182, 0, 241, 153, 0, 23, 42, 28, 182, 1, 36, 153, 0, 15, 29, 133, 10, 20, 1, 19]
abbrev dktX3_entry_0 : List UInt8 := dkwX3_entry_0 ++ dktX3_entry_1
theorem dksX3_entry_0 : cX3_entry.data.toList.drop 0 = dktX3_entry_0 := by decide +kernel
theorem dksX3_entry_1 : cX3_entry.data.toList.drop 22 = dktX3_entry_1 := dk_seg dksX3_entry_0 22 rfl rfl
theorem dksX3_entry_2 : cX3_entry.data.toList.drop 46 = dktX3_entry_2 := dk_seg dksX3_entry_1 24 rfl rfl
theorem dksX3_entry_3 : cX3_entry.data.toList.drop 70 = dktX3_entry_3 := dk_seg dksX3_entry_2 24 rfl rfl
theorem dX3_entry_0 : decode cX3_entry 0 = .ok (.aload_n 0, 1) := dk_42 (dk_at dksX3_entry_0 0 rfl rfl)
theorem dX3_entry_1 : decode cX3_entry 1 = .ok (.iload_n 1, 1) := dk_27 (dk_at dksX3_entry_0 1 rfl rfl)
theorem dX3_entry_2 : decode cX3_entry 2 = .ok (.invokevirtual 241, 3) := dk_182 0 241 (dk_at dksX3_entry_0 2 rfl rfl)
theorem dX3_entry_5 : decode cX3_entry 5 = .ok (.ifCond .eq 23, 3) := dk_153 0 23 (dk_at dksX3_entry_0 5 rfl rfl)
theorem dX3_entry_8 : decode cX3_entry 8 = .ok (.aload_n 0, 1) := dk_42 (dk_at dksX3_entry_0 8 rfl rfl)
theorem dX3_entry_9 : decode cX3_entry 9 = .ok (.iload_n 2, 1) := dk_28 (dk_at dksX3_entry_0 9 rfl rfl)
theorem dX3_entry_10 : decode cX3_entry 10 = .ok (.invokevirtual 292, 3) := dk_182 1 36 (dk_at dksX3_entry_0 10 rfl rfl)
theorem dX3_entry_13 : decode cX3_entry 13 = .ok (.ifCond .eq 15, 3) := dk_153 0 15 (dk_at dksX3_entry_0 13 rfl rfl)
theorem dX3_entry_16 : decode cX3_entry 16 = .ok (.iload_n 3, 1) := dk_29 (dk_at dksX3_entry_0 16 rfl rfl)
theorem dX3_entry_17 : decode cX3_entry 17 = .ok (.i2l, 1) := dk_133 (dk_at dksX3_entry_0 17 rfl rfl)
theorem dX3_entry_18 : decode cX3_entry 18 = .ok (.lconst 1, 1) := dk_10 (dk_at dksX3_entry_0 18 rfl rfl)
theorem dX3_entry_19 : decode cX3_entry 19 = .ok (.ldc2_w 275, 3) := dk_20 1 19 (dk_at dksX3_entry_0 19 rfl rfl)
theorem dX3_entry_22 : decode cX3_entry 22 = .ok (.invokestatic 214, 3) := dk_184 0 214 (dk_at dksX3_entry_1 0 rfl rfl)
theorem dX3_entry_25 : decode cX3_entry 25 = .ok (.ifCond .ne 5, 3) := dk_154 0 5 (dk_at dksX3_entry_1 3 rfl rfl)
theorem dX3_entry_28 : decode cX3_entry 28 = .ok (.iconst (-1), 1) := dk_2 (dk_at dksX3_entry_1 6 rfl rfl)
theorem dX3_entry_29 : decode cX3_entry 29 = .ok (.ireturn, 1) := dk_172 (dk_at dksX3_entry_1 7 rfl rfl)
theorem dX3_entry_30 : decode cX3_entry 30 = .ok (.aload_n 0, 1) := dk_42 (dk_at dksX3_entry_1 8 rfl rfl)
theorem dX3_entry_31 : decode cX3_entry 31 = .ok (.getfield 480, 3) := dk_180 1 224 (dk_at dksX3_entry_1 9 rfl rfl)
theorem dX3_entry_34 : decode cX3_entry 34 = .ok (.bipush 14, 2) := dk_16 14 (dk_at dksX3_entry_1 12 rfl rfl)
theorem dX3_entry_36 : decode cX3_entry 36 = .ok (.if_icmp .ne 6, 3) := dk_160 0 6 (dk_at dksX3_entry_1 14 rfl rfl)
theorem dX3_entry_39 : decode cX3_entry 39 = .ok (.bipush (-3), 2) := dk_16 253 (dk_at dksX3_entry_1 17 rfl rfl)
theorem dX3_entry_41 : decode cX3_entry 41 = .ok (.ireturn, 1) := dk_172 (dk_at dksX3_entry_1 19 rfl rfl)
theorem dX3_entry_42 : decode cX3_entry 42 = .ok (.aload_n 0, 1) := dk_42 (dk_at dksX3_entry_1 20 rfl rfl)
theorem dX3_entry_43 : decode cX3_entry 43 = .ok (.getfield 173, 3) := dk_180 0 173 (dk_at dksX3_entry_1 21 rfl rfl)
theorem dX3_entry_46 : decode cX3_entry 46 = .ok (.aload_n 0, 1) := dk_42 (dk_at dksX3_entry_2 0 rfl rfl)
theorem dX3_entry_47 : decode cX3_entry 47 = .ok (.getfield 480, 3) := dk_180 1 224 (dk_at dksX3_entry_2 1 rfl rfl)
theorem dX3_entry_50 : decode cX3_entry 50 = .ok (.iload_n 1, 1) := dk_27 (dk_at dksX3_entry_2 4 rfl rfl)
theorem dX3_entry_51 : decode cX3_entry 51 = .ok (.iastore, 1) := dk_79 (dk_at dksX3_entry_2 5 rfl rfl)
theorem dX3_entry_52 : decode cX3_entry 52 = .ok (.aload_n 0, 1) := dk_42 (dk_at dksX3_entry_2 6 rfl rfl)
theorem dX3_entry_53 : decode cX3_entry 53 = .ok (.getfield 176, 3) := dk_180 0 176 (dk_at dksX3_entry_2 7 rfl rfl)
theorem dX3_entry_56 : decode cX3_entry 56 = .ok (.aload_n 0, 1) := dk_42 (dk_at dksX3_entry_2 10 rfl rfl)
theorem dX3_entry_57 : decode cX3_entry 57 = .ok (.getfield 480, 3) := dk_180 1 224 (dk_at dksX3_entry_2 11 rfl rfl)
theorem dX3_entry_60 : decode cX3_entry 60 = .ok (.iload_n 2, 1) := dk_28 (dk_at dksX3_entry_2 14 rfl rfl)
theorem dX3_entry_61 : decode cX3_entry 61 = .ok (.iastore, 1) := dk_79 (dk_at dksX3_entry_2 15 rfl rfl)
theorem dX3_entry_62 : decode cX3_entry 62 = .ok (.aload_n 0, 1) := dk_42 (dk_at dksX3_entry_2 16 rfl rfl)
theorem dX3_entry_63 : decode cX3_entry 63 = .ok (.getfield 179, 3) := dk_180 0 179 (dk_at dksX3_entry_2 17 rfl rfl)
theorem dX3_entry_66 : decode cX3_entry 66 = .ok (.aload_n 0, 1) := dk_42 (dk_at dksX3_entry_2 20 rfl rfl)
theorem dX3_entry_67 : decode cX3_entry 67 = .ok (.getfield 480, 3) := dk_180 1 224 (dk_at dksX3_entry_2 21 rfl rfl)
theorem dX3_entry_70 : decode cX3_entry 70 = .ok (.iload_n 3, 1) := dk_29 (dk_at dksX3_entry_3 0 rfl rfl)
theorem dX3_entry_71 : decode cX3_entry 71 = .ok (.iastore, 1) := dk_79 (dk_at dksX3_entry_3 1 rfl rfl)
theorem dX3_entry_72 : decode cX3_entry 72 = .ok (.aload_n 0, 1) := dk_42 (dk_at dksX3_entry_3 2 rfl rfl)
theorem dX3_entry_73 : decode cX3_entry 73 = .ok (.dup, 1) := dk_89 (dk_at dksX3_entry_3 3 rfl rfl)
theorem dX3_entry_74 : decode cX3_entry 74 = .ok (.getfield 480, 3) := dk_180 1 224 (dk_at dksX3_entry_3 4 rfl rfl)
theorem dX3_entry_77 : decode cX3_entry 77 = .ok (.iconst 1, 1) := dk_4 (dk_at dksX3_entry_3 7 rfl rfl)
theorem dX3_entry_78 : decode cX3_entry 78 = .ok (.iadd, 1) := dk_96 (dk_at dksX3_entry_3 8 rfl rfl)
theorem dX3_entry_79 : decode cX3_entry 79 = .ok (.putfield 480, 3) := dk_181 1 224 (dk_at dksX3_entry_3 9 rfl rfl)
theorem dX3_entry_82 : decode cX3_entry 82 = .ok (.aload_n 0, 1) := dk_42 (dk_at dksX3_entry_3 12 rfl rfl)
theorem dX3_entry_83 : decode cX3_entry 83 = .ok (.getfield 480, 3) := dk_180 1 224 (dk_at dksX3_entry_3 13 rfl rfl)
theorem dX3_entry_86 : decode cX3_entry 86 = .ok (.iconst 1, 1) := dk_4 (dk_at dksX3_entry_3 16 rfl rfl)
theorem dX3_entry_87 : decode cX3_entry 87 = .ok (.isub, 1) := dk_100 (dk_at dksX3_entry_3 17 rfl rfl)
theorem dX3_entry_88 : decode cX3_entry 88 = .ok (.ireturn, 1) := dk_172 (dk_at dksX3_entry_3 18 rfl rfl)
abbrev cX3_grade : ByteArray := prog_26_method_99_code
def yX3_grade : MethodName := ⟨RX3, "grade", "(III)J"⟩
def dkwX3_grade_4 : List UInt8 := [167, 0, 7, 42, 180, 1, 231, 173]
abbrev dktX3_grade_4 : List UInt8 := dkwX3_grade_4 ++ []
def dkwX3_grade_3 : List UInt8 := [16, 252, 160, 0, 7, 20, 1, 250, 173, 42, 21, 4, 182, 1, 252, 29, 154, 0, 10, 42, 180, 1, 227]
abbrev dktX3_grade_3 : List UInt8 := dkwX3_grade_3 ++ dktX3_grade_4
def dkwX3_grade_2 : List UInt8 := [182, 1, 234, 27, 154, 0, 7, 28, 167, 0, 7, 16, 6, 28, 96, 54, 4, 42, 180, 0, 182, 21, 4, 46]
abbrev dktX3_grade_2 : List UInt8 := dkwX3_grade_2 ++ dktX3_grade_3
def dkwX3_grade_1 : List UInt8 := [42, 28, 182, 0, 241, 153, 0, 14, 167, 0, 15, 42, 28, 182, 1, 36, 154, 0, 7, 20, 1, 248, 173, 42]
abbrev dktX3_grade_1 : List UInt8 := dkwX3_grade_1 ++ dktX3_grade_2
def dkwX3_grade_0 : List UInt8 := [27, 133, 9, 10, 184, 0, 214, 153, 0, 36, 29, 133, 9, 10, 184, 0, 214, 153, 0, 26, 27, 154, 0, 14]
abbrev dktX3_grade_0 : List UInt8 := dkwX3_grade_0 ++ dktX3_grade_1
theorem dksX3_grade_0 : cX3_grade.data.toList.drop 0 = dktX3_grade_0 := by decide +kernel
theorem dksX3_grade_1 : cX3_grade.data.toList.drop 24 = dktX3_grade_1 := dk_seg dksX3_grade_0 24 rfl rfl
theorem dksX3_grade_2 : cX3_grade.data.toList.drop 48 = dktX3_grade_2 := dk_seg dksX3_grade_1 24 rfl rfl
theorem dksX3_grade_3 : cX3_grade.data.toList.drop 72 = dktX3_grade_3 := dk_seg dksX3_grade_2 24 rfl rfl
theorem dksX3_grade_4 : cX3_grade.data.toList.drop 95 = dktX3_grade_4 := dk_seg dksX3_grade_3 23 rfl rfl
theorem dX3_grade_0 : decode cX3_grade 0 = .ok (.iload_n 1, 1) := dk_27 (dk_at dksX3_grade_0 0 rfl rfl)
theorem dX3_grade_1 : decode cX3_grade 1 = .ok (.i2l, 1) := dk_133 (dk_at dksX3_grade_0 1 rfl rfl)
theorem dX3_grade_2 : decode cX3_grade 2 = .ok (.lconst 0, 1) := dk_9 (dk_at dksX3_grade_0 2 rfl rfl)
theorem dX3_grade_3 : decode cX3_grade 3 = .ok (.lconst 1, 1) := dk_10 (dk_at dksX3_grade_0 3 rfl rfl)
theorem dX3_grade_4 : decode cX3_grade 4 = .ok (.invokestatic 214, 3) := dk_184 0 214 (dk_at dksX3_grade_0 4 rfl rfl)
theorem dX3_grade_7 : decode cX3_grade 7 = .ok (.ifCond .eq 36, 3) := dk_153 0 36 (dk_at dksX3_grade_0 7 rfl rfl)
theorem dX3_grade_10 : decode cX3_grade 10 = .ok (.iload_n 3, 1) := dk_29 (dk_at dksX3_grade_0 10 rfl rfl)
theorem dX3_grade_11 : decode cX3_grade 11 = .ok (.i2l, 1) := dk_133 (dk_at dksX3_grade_0 11 rfl rfl)
theorem dX3_grade_12 : decode cX3_grade 12 = .ok (.lconst 0, 1) := dk_9 (dk_at dksX3_grade_0 12 rfl rfl)
theorem dX3_grade_13 : decode cX3_grade 13 = .ok (.lconst 1, 1) := dk_10 (dk_at dksX3_grade_0 13 rfl rfl)
theorem dX3_grade_14 : decode cX3_grade 14 = .ok (.invokestatic 214, 3) := dk_184 0 214 (dk_at dksX3_grade_0 14 rfl rfl)
theorem dX3_grade_17 : decode cX3_grade 17 = .ok (.ifCond .eq 26, 3) := dk_153 0 26 (dk_at dksX3_grade_0 17 rfl rfl)
theorem dX3_grade_20 : decode cX3_grade 20 = .ok (.iload_n 1, 1) := dk_27 (dk_at dksX3_grade_0 20 rfl rfl)
theorem dX3_grade_21 : decode cX3_grade 21 = .ok (.ifCond .ne 14, 3) := dk_154 0 14 (dk_at dksX3_grade_0 21 rfl rfl)
theorem dX3_grade_24 : decode cX3_grade 24 = .ok (.aload_n 0, 1) := dk_42 (dk_at dksX3_grade_1 0 rfl rfl)
theorem dX3_grade_25 : decode cX3_grade 25 = .ok (.iload_n 2, 1) := dk_28 (dk_at dksX3_grade_1 1 rfl rfl)
theorem dX3_grade_26 : decode cX3_grade 26 = .ok (.invokevirtual 241, 3) := dk_182 0 241 (dk_at dksX3_grade_1 2 rfl rfl)
theorem dX3_grade_29 : decode cX3_grade 29 = .ok (.ifCond .eq 14, 3) := dk_153 0 14 (dk_at dksX3_grade_1 5 rfl rfl)
theorem dX3_grade_32 : decode cX3_grade 32 = .ok (.goto 15, 3) := dk_167 0 15 (dk_at dksX3_grade_1 8 rfl rfl)
theorem dX3_grade_35 : decode cX3_grade 35 = .ok (.aload_n 0, 1) := dk_42 (dk_at dksX3_grade_1 11 rfl rfl)
theorem dX3_grade_36 : decode cX3_grade 36 = .ok (.iload_n 2, 1) := dk_28 (dk_at dksX3_grade_1 12 rfl rfl)
theorem dX3_grade_37 : decode cX3_grade 37 = .ok (.invokevirtual 292, 3) := dk_182 1 36 (dk_at dksX3_grade_1 13 rfl rfl)
theorem dX3_grade_40 : decode cX3_grade 40 = .ok (.ifCond .ne 7, 3) := dk_154 0 7 (dk_at dksX3_grade_1 16 rfl rfl)
theorem dX3_grade_43 : decode cX3_grade 43 = .ok (.ldc2_w 504, 3) := dk_20 1 248 (dk_at dksX3_grade_1 19 rfl rfl)
theorem dX3_grade_46 : decode cX3_grade 46 = .ok (.lreturn, 1) := dk_173 (dk_at dksX3_grade_1 22 rfl rfl)
theorem dX3_grade_47 : decode cX3_grade 47 = .ok (.aload_n 0, 1) := dk_42 (dk_at dksX3_grade_1 23 rfl rfl)
theorem dX3_grade_48 : decode cX3_grade 48 = .ok (.invokevirtual 490, 3) := dk_182 1 234 (dk_at dksX3_grade_2 0 rfl rfl)
theorem dX3_grade_51 : decode cX3_grade 51 = .ok (.iload_n 1, 1) := dk_27 (dk_at dksX3_grade_2 3 rfl rfl)
theorem dX3_grade_52 : decode cX3_grade 52 = .ok (.ifCond .ne 7, 3) := dk_154 0 7 (dk_at dksX3_grade_2 4 rfl rfl)
theorem dX3_grade_55 : decode cX3_grade 55 = .ok (.iload_n 2, 1) := dk_28 (dk_at dksX3_grade_2 7 rfl rfl)
theorem dX3_grade_56 : decode cX3_grade 56 = .ok (.goto 7, 3) := dk_167 0 7 (dk_at dksX3_grade_2 8 rfl rfl)
theorem dX3_grade_59 : decode cX3_grade 59 = .ok (.bipush 6, 2) := dk_16 6 (dk_at dksX3_grade_2 11 rfl rfl)
theorem dX3_grade_61 : decode cX3_grade 61 = .ok (.iload_n 2, 1) := dk_28 (dk_at dksX3_grade_2 13 rfl rfl)
theorem dX3_grade_62 : decode cX3_grade 62 = .ok (.iadd, 1) := dk_96 (dk_at dksX3_grade_2 14 rfl rfl)
theorem dX3_grade_63 : decode cX3_grade 63 = .ok (.istore 4, 2) := dk_54 4 (dk_at dksX3_grade_2 15 rfl rfl)
theorem dX3_grade_65 : decode cX3_grade 65 = .ok (.aload_n 0, 1) := dk_42 (dk_at dksX3_grade_2 17 rfl rfl)
theorem dX3_grade_66 : decode cX3_grade 66 = .ok (.getfield 182, 3) := dk_180 0 182 (dk_at dksX3_grade_2 18 rfl rfl)
theorem dX3_grade_69 : decode cX3_grade 69 = .ok (.iload 4, 2) := dk_21 4 (dk_at dksX3_grade_2 21 rfl rfl)
theorem dX3_grade_71 : decode cX3_grade 71 = .ok (.iaload, 1) := dk_46 (dk_at dksX3_grade_2 23 rfl rfl)
theorem dX3_grade_72 : decode cX3_grade 72 = .ok (.bipush (-4), 2) := dk_16 252 (dk_at dksX3_grade_3 0 rfl rfl)
theorem dX3_grade_74 : decode cX3_grade 74 = .ok (.if_icmp .ne 7, 3) := dk_160 0 7 (dk_at dksX3_grade_3 2 rfl rfl)
theorem dX3_grade_77 : decode cX3_grade 77 = .ok (.ldc2_w 506, 3) := dk_20 1 250 (dk_at dksX3_grade_3 5 rfl rfl)
theorem dX3_grade_80 : decode cX3_grade 80 = .ok (.lreturn, 1) := dk_173 (dk_at dksX3_grade_3 8 rfl rfl)
theorem dX3_grade_81 : decode cX3_grade 81 = .ok (.aload_n 0, 1) := dk_42 (dk_at dksX3_grade_3 9 rfl rfl)
theorem dX3_grade_82 : decode cX3_grade 82 = .ok (.iload 4, 2) := dk_21 4 (dk_at dksX3_grade_3 10 rfl rfl)
theorem dX3_grade_84 : decode cX3_grade 84 = .ok (.invokevirtual 508, 3) := dk_182 1 252 (dk_at dksX3_grade_3 12 rfl rfl)
theorem dX3_grade_87 : decode cX3_grade 87 = .ok (.iload_n 3, 1) := dk_29 (dk_at dksX3_grade_3 15 rfl rfl)
theorem dX3_grade_88 : decode cX3_grade 88 = .ok (.ifCond .ne 10, 3) := dk_154 0 10 (dk_at dksX3_grade_3 16 rfl rfl)
theorem dX3_grade_91 : decode cX3_grade 91 = .ok (.aload_n 0, 1) := dk_42 (dk_at dksX3_grade_3 19 rfl rfl)
theorem dX3_grade_92 : decode cX3_grade 92 = .ok (.getfield 483, 3) := dk_180 1 227 (dk_at dksX3_grade_3 20 rfl rfl)
theorem dX3_grade_95 : decode cX3_grade 95 = .ok (.goto 7, 3) := dk_167 0 7 (dk_at dksX3_grade_4 0 rfl rfl)
theorem dX3_grade_98 : decode cX3_grade 98 = .ok (.aload_n 0, 1) := dk_42 (dk_at dksX3_grade_4 3 rfl rfl)
theorem dX3_grade_99 : decode cX3_grade 99 = .ok (.getfield 487, 3) := dk_180 1 231 (dk_at dksX3_grade_4 4 rfl rfl)
theorem dX3_grade_102 : decode cX3_grade 102 = .ok (.lreturn, 1) := dk_173 (dk_at dksX3_grade_4 7 rfl rfl)
abbrev cX3_findLots : ByteArray := prog_26_method_94_code
def yX3_findLots : MethodName := ⟨RX3, "findLots", "()V"⟩
def dkwX3_findLots_7 : List UInt8 := [132, 2, 1, 167, 255, 174, 132, 1, 1, 167, 255, 160, 177]
abbrev dktX3_findLots_7 : List UInt8 := dkwX3_findLots_7 ++ []
def dkwX3_findLots_6 : List UInt8 := [180, 0, 173, 28, 46, 21, 5, 79, 42, 180, 0, 182, 16, 6, 42, 180, 0, 176, 28, 46, 96, 21, 5, 79]
abbrev dktX3_findLots_6 : List UInt8 := dkwX3_findLots_6 ++ dktX3_findLots_7
def dkwX3_findLots_5 : List UInt8 := [96, 46, 54, 4, 29, 21, 4, 162, 0, 7, 29, 167, 0, 5, 21, 4, 54, 5, 42, 180, 0, 182, 42]
abbrev dktX3_findLots_5 : List UInt8 := dkwX3_findLots_5 ++ dktX3_findLots_6
def dkwX3_findLots_4 : List UInt8 := [42, 180, 0, 182, 42, 180, 0, 173, 28, 46, 46, 62, 42, 180, 0, 182, 16, 6, 42, 180, 0, 176, 28, 46]
abbrev dktX3_findLots_4 : List UInt8 := dkwX3_findLots_4 ++ dktX3_findLots_5
def dkwX3_findLots_3 : List UInt8 := [132, 1, 1, 167, 255, 205, 3, 60, 27, 16, 14, 162, 0, 96, 3, 61, 28, 42, 180, 1, 224, 162, 0, 80]
abbrev dktX3_findLots_3 : List UInt8 := dkwX3_findLots_3 ++ dktX3_findLots_4
def dkwX3_findLots_2 : List UInt8 := [79, 42, 180, 0, 182, 16, 6, 42, 180, 0, 176, 27, 46, 96, 16, 6, 42, 180, 0, 176, 27, 46, 96, 79]
abbrev dktX3_findLots_2 : List UInt8 := dkwX3_findLots_2 ++ dktX3_findLots_3
def dkwX3_findLots_1 : List UInt8 := [27, 42, 180, 1, 224, 162, 0, 49, 42, 180, 0, 182, 42, 180, 0, 173, 27, 46, 42, 180, 0, 173, 27, 46]
abbrev dktX3_findLots_1 : List UInt8 := dkwX3_findLots_1 ++ dktX3_findLots_2
def dkwX3_findLots_0 : List UInt8 := [3, 60, 27, 16, 14, 162, 0, 17, 42, 180, 0, 182, 27, 16, 252, 79, 132, 1, 1, 167, 255, 239, 3, 60]
abbrev dktX3_findLots_0 : List UInt8 := dkwX3_findLots_0 ++ dktX3_findLots_1
theorem dksX3_findLots_0 : cX3_findLots.data.toList.drop 0 = dktX3_findLots_0 := by decide +kernel
theorem dksX3_findLots_1 : cX3_findLots.data.toList.drop 24 = dktX3_findLots_1 := dk_seg dksX3_findLots_0 24 rfl rfl
theorem dksX3_findLots_2 : cX3_findLots.data.toList.drop 48 = dktX3_findLots_2 := dk_seg dksX3_findLots_1 24 rfl rfl
theorem dksX3_findLots_3 : cX3_findLots.data.toList.drop 72 = dktX3_findLots_3 := dk_seg dksX3_findLots_2 24 rfl rfl
theorem dksX3_findLots_4 : cX3_findLots.data.toList.drop 96 = dktX3_findLots_4 := dk_seg dksX3_findLots_3 24 rfl rfl
theorem dksX3_findLots_5 : cX3_findLots.data.toList.drop 120 = dktX3_findLots_5 := dk_seg dksX3_findLots_4 24 rfl rfl
theorem dksX3_findLots_6 : cX3_findLots.data.toList.drop 143 = dktX3_findLots_6 := dk_seg dksX3_findLots_5 23 rfl rfl
theorem dksX3_findLots_7 : cX3_findLots.data.toList.drop 167 = dktX3_findLots_7 := dk_seg dksX3_findLots_6 24 rfl rfl
theorem dX3_findLots_0 : decode cX3_findLots 0 = .ok (.iconst 0, 1) := dk_3 (dk_at dksX3_findLots_0 0 rfl rfl)
theorem dX3_findLots_1 : decode cX3_findLots 1 = .ok (.istore_n 1, 1) := dk_60 (dk_at dksX3_findLots_0 1 rfl rfl)
theorem dX3_findLots_2 : decode cX3_findLots 2 = .ok (.iload_n 1, 1) := dk_27 (dk_at dksX3_findLots_0 2 rfl rfl)
theorem dX3_findLots_3 : decode cX3_findLots 3 = .ok (.bipush 14, 2) := dk_16 14 (dk_at dksX3_findLots_0 3 rfl rfl)
theorem dX3_findLots_5 : decode cX3_findLots 5 = .ok (.if_icmp .ge 17, 3) := dk_162 0 17 (dk_at dksX3_findLots_0 5 rfl rfl)
theorem dX3_findLots_8 : decode cX3_findLots 8 = .ok (.aload_n 0, 1) := dk_42 (dk_at dksX3_findLots_0 8 rfl rfl)
theorem dX3_findLots_9 : decode cX3_findLots 9 = .ok (.getfield 182, 3) := dk_180 0 182 (dk_at dksX3_findLots_0 9 rfl rfl)
theorem dX3_findLots_12 : decode cX3_findLots 12 = .ok (.iload_n 1, 1) := dk_27 (dk_at dksX3_findLots_0 12 rfl rfl)
theorem dX3_findLots_13 : decode cX3_findLots 13 = .ok (.bipush (-4), 2) := dk_16 252 (dk_at dksX3_findLots_0 13 rfl rfl)
theorem dX3_findLots_15 : decode cX3_findLots 15 = .ok (.iastore, 1) := dk_79 (dk_at dksX3_findLots_0 15 rfl rfl)
theorem dX3_findLots_16 : decode cX3_findLots 16 = .ok (.iinc 1 1, 3) := dk_132 1 1 (dk_at dksX3_findLots_0 16 rfl rfl)
theorem dX3_findLots_19 : decode cX3_findLots 19 = .ok (.goto (-17), 3) := dk_167 255 239 (dk_at dksX3_findLots_0 19 rfl rfl)
theorem dX3_findLots_22 : decode cX3_findLots 22 = .ok (.iconst 0, 1) := dk_3 (dk_at dksX3_findLots_0 22 rfl rfl)
theorem dX3_findLots_23 : decode cX3_findLots 23 = .ok (.istore_n 1, 1) := dk_60 (dk_at dksX3_findLots_0 23 rfl rfl)
theorem dX3_findLots_24 : decode cX3_findLots 24 = .ok (.iload_n 1, 1) := dk_27 (dk_at dksX3_findLots_1 0 rfl rfl)
theorem dX3_findLots_25 : decode cX3_findLots 25 = .ok (.aload_n 0, 1) := dk_42 (dk_at dksX3_findLots_1 1 rfl rfl)
theorem dX3_findLots_26 : decode cX3_findLots 26 = .ok (.getfield 480, 3) := dk_180 1 224 (dk_at dksX3_findLots_1 2 rfl rfl)
theorem dX3_findLots_29 : decode cX3_findLots 29 = .ok (.if_icmp .ge 49, 3) := dk_162 0 49 (dk_at dksX3_findLots_1 5 rfl rfl)
theorem dX3_findLots_32 : decode cX3_findLots 32 = .ok (.aload_n 0, 1) := dk_42 (dk_at dksX3_findLots_1 8 rfl rfl)
theorem dX3_findLots_33 : decode cX3_findLots 33 = .ok (.getfield 182, 3) := dk_180 0 182 (dk_at dksX3_findLots_1 9 rfl rfl)
theorem dX3_findLots_36 : decode cX3_findLots 36 = .ok (.aload_n 0, 1) := dk_42 (dk_at dksX3_findLots_1 12 rfl rfl)
theorem dX3_findLots_37 : decode cX3_findLots 37 = .ok (.getfield 173, 3) := dk_180 0 173 (dk_at dksX3_findLots_1 13 rfl rfl)
theorem dX3_findLots_40 : decode cX3_findLots 40 = .ok (.iload_n 1, 1) := dk_27 (dk_at dksX3_findLots_1 16 rfl rfl)
theorem dX3_findLots_41 : decode cX3_findLots 41 = .ok (.iaload, 1) := dk_46 (dk_at dksX3_findLots_1 17 rfl rfl)
theorem dX3_findLots_42 : decode cX3_findLots 42 = .ok (.aload_n 0, 1) := dk_42 (dk_at dksX3_findLots_1 18 rfl rfl)
theorem dX3_findLots_43 : decode cX3_findLots 43 = .ok (.getfield 173, 3) := dk_180 0 173 (dk_at dksX3_findLots_1 19 rfl rfl)
theorem dX3_findLots_46 : decode cX3_findLots 46 = .ok (.iload_n 1, 1) := dk_27 (dk_at dksX3_findLots_1 22 rfl rfl)
theorem dX3_findLots_47 : decode cX3_findLots 47 = .ok (.iaload, 1) := dk_46 (dk_at dksX3_findLots_1 23 rfl rfl)
theorem dX3_findLots_48 : decode cX3_findLots 48 = .ok (.iastore, 1) := dk_79 (dk_at dksX3_findLots_2 0 rfl rfl)
theorem dX3_findLots_49 : decode cX3_findLots 49 = .ok (.aload_n 0, 1) := dk_42 (dk_at dksX3_findLots_2 1 rfl rfl)
theorem dX3_findLots_50 : decode cX3_findLots 50 = .ok (.getfield 182, 3) := dk_180 0 182 (dk_at dksX3_findLots_2 2 rfl rfl)
theorem dX3_findLots_53 : decode cX3_findLots 53 = .ok (.bipush 6, 2) := dk_16 6 (dk_at dksX3_findLots_2 5 rfl rfl)
theorem dX3_findLots_55 : decode cX3_findLots 55 = .ok (.aload_n 0, 1) := dk_42 (dk_at dksX3_findLots_2 7 rfl rfl)
theorem dX3_findLots_56 : decode cX3_findLots 56 = .ok (.getfield 176, 3) := dk_180 0 176 (dk_at dksX3_findLots_2 8 rfl rfl)
theorem dX3_findLots_59 : decode cX3_findLots 59 = .ok (.iload_n 1, 1) := dk_27 (dk_at dksX3_findLots_2 11 rfl rfl)
theorem dX3_findLots_60 : decode cX3_findLots 60 = .ok (.iaload, 1) := dk_46 (dk_at dksX3_findLots_2 12 rfl rfl)
theorem dX3_findLots_61 : decode cX3_findLots 61 = .ok (.iadd, 1) := dk_96 (dk_at dksX3_findLots_2 13 rfl rfl)
theorem dX3_findLots_62 : decode cX3_findLots 62 = .ok (.bipush 6, 2) := dk_16 6 (dk_at dksX3_findLots_2 14 rfl rfl)
theorem dX3_findLots_64 : decode cX3_findLots 64 = .ok (.aload_n 0, 1) := dk_42 (dk_at dksX3_findLots_2 16 rfl rfl)
theorem dX3_findLots_65 : decode cX3_findLots 65 = .ok (.getfield 176, 3) := dk_180 0 176 (dk_at dksX3_findLots_2 17 rfl rfl)
theorem dX3_findLots_68 : decode cX3_findLots 68 = .ok (.iload_n 1, 1) := dk_27 (dk_at dksX3_findLots_2 20 rfl rfl)
theorem dX3_findLots_69 : decode cX3_findLots 69 = .ok (.iaload, 1) := dk_46 (dk_at dksX3_findLots_2 21 rfl rfl)
theorem dX3_findLots_70 : decode cX3_findLots 70 = .ok (.iadd, 1) := dk_96 (dk_at dksX3_findLots_2 22 rfl rfl)
theorem dX3_findLots_71 : decode cX3_findLots 71 = .ok (.iastore, 1) := dk_79 (dk_at dksX3_findLots_2 23 rfl rfl)
theorem dX3_findLots_72 : decode cX3_findLots 72 = .ok (.iinc 1 1, 3) := dk_132 1 1 (dk_at dksX3_findLots_3 0 rfl rfl)
theorem dX3_findLots_75 : decode cX3_findLots 75 = .ok (.goto (-51), 3) := dk_167 255 205 (dk_at dksX3_findLots_3 3 rfl rfl)
theorem dX3_findLots_78 : decode cX3_findLots 78 = .ok (.iconst 0, 1) := dk_3 (dk_at dksX3_findLots_3 6 rfl rfl)
theorem dX3_findLots_79 : decode cX3_findLots 79 = .ok (.istore_n 1, 1) := dk_60 (dk_at dksX3_findLots_3 7 rfl rfl)
theorem dX3_findLots_80 : decode cX3_findLots 80 = .ok (.iload_n 1, 1) := dk_27 (dk_at dksX3_findLots_3 8 rfl rfl)
theorem dX3_findLots_81 : decode cX3_findLots 81 = .ok (.bipush 14, 2) := dk_16 14 (dk_at dksX3_findLots_3 9 rfl rfl)
theorem dX3_findLots_83 : decode cX3_findLots 83 = .ok (.if_icmp .ge 96, 3) := dk_162 0 96 (dk_at dksX3_findLots_3 11 rfl rfl)
theorem dX3_findLots_86 : decode cX3_findLots 86 = .ok (.iconst 0, 1) := dk_3 (dk_at dksX3_findLots_3 14 rfl rfl)
theorem dX3_findLots_87 : decode cX3_findLots 87 = .ok (.istore_n 2, 1) := dk_61 (dk_at dksX3_findLots_3 15 rfl rfl)
theorem dX3_findLots_88 : decode cX3_findLots 88 = .ok (.iload_n 2, 1) := dk_28 (dk_at dksX3_findLots_3 16 rfl rfl)
theorem dX3_findLots_89 : decode cX3_findLots 89 = .ok (.aload_n 0, 1) := dk_42 (dk_at dksX3_findLots_3 17 rfl rfl)
theorem dX3_findLots_90 : decode cX3_findLots 90 = .ok (.getfield 480, 3) := dk_180 1 224 (dk_at dksX3_findLots_3 18 rfl rfl)
theorem dX3_findLots_93 : decode cX3_findLots 93 = .ok (.if_icmp .ge 80, 3) := dk_162 0 80 (dk_at dksX3_findLots_3 21 rfl rfl)
theorem dX3_findLots_96 : decode cX3_findLots 96 = .ok (.aload_n 0, 1) := dk_42 (dk_at dksX3_findLots_4 0 rfl rfl)
theorem dX3_findLots_97 : decode cX3_findLots 97 = .ok (.getfield 182, 3) := dk_180 0 182 (dk_at dksX3_findLots_4 1 rfl rfl)
theorem dX3_findLots_100 : decode cX3_findLots 100 = .ok (.aload_n 0, 1) := dk_42 (dk_at dksX3_findLots_4 4 rfl rfl)
theorem dX3_findLots_101 : decode cX3_findLots 101 = .ok (.getfield 173, 3) := dk_180 0 173 (dk_at dksX3_findLots_4 5 rfl rfl)
theorem dX3_findLots_104 : decode cX3_findLots 104 = .ok (.iload_n 2, 1) := dk_28 (dk_at dksX3_findLots_4 8 rfl rfl)
theorem dX3_findLots_105 : decode cX3_findLots 105 = .ok (.iaload, 1) := dk_46 (dk_at dksX3_findLots_4 9 rfl rfl)
theorem dX3_findLots_106 : decode cX3_findLots 106 = .ok (.iaload, 1) := dk_46 (dk_at dksX3_findLots_4 10 rfl rfl)
theorem dX3_findLots_107 : decode cX3_findLots 107 = .ok (.istore_n 3, 1) := dk_62 (dk_at dksX3_findLots_4 11 rfl rfl)
theorem dX3_findLots_108 : decode cX3_findLots 108 = .ok (.aload_n 0, 1) := dk_42 (dk_at dksX3_findLots_4 12 rfl rfl)
theorem dX3_findLots_109 : decode cX3_findLots 109 = .ok (.getfield 182, 3) := dk_180 0 182 (dk_at dksX3_findLots_4 13 rfl rfl)
theorem dX3_findLots_112 : decode cX3_findLots 112 = .ok (.bipush 6, 2) := dk_16 6 (dk_at dksX3_findLots_4 16 rfl rfl)
theorem dX3_findLots_114 : decode cX3_findLots 114 = .ok (.aload_n 0, 1) := dk_42 (dk_at dksX3_findLots_4 18 rfl rfl)
theorem dX3_findLots_115 : decode cX3_findLots 115 = .ok (.getfield 176, 3) := dk_180 0 176 (dk_at dksX3_findLots_4 19 rfl rfl)
theorem dX3_findLots_118 : decode cX3_findLots 118 = .ok (.iload_n 2, 1) := dk_28 (dk_at dksX3_findLots_4 22 rfl rfl)
theorem dX3_findLots_119 : decode cX3_findLots 119 = .ok (.iaload, 1) := dk_46 (dk_at dksX3_findLots_4 23 rfl rfl)
theorem dX3_findLots_120 : decode cX3_findLots 120 = .ok (.iadd, 1) := dk_96 (dk_at dksX3_findLots_5 0 rfl rfl)
theorem dX3_findLots_121 : decode cX3_findLots 121 = .ok (.iaload, 1) := dk_46 (dk_at dksX3_findLots_5 1 rfl rfl)
theorem dX3_findLots_122 : decode cX3_findLots 122 = .ok (.istore 4, 2) := dk_54 4 (dk_at dksX3_findLots_5 2 rfl rfl)
theorem dX3_findLots_124 : decode cX3_findLots 124 = .ok (.iload_n 3, 1) := dk_29 (dk_at dksX3_findLots_5 4 rfl rfl)
theorem dX3_findLots_125 : decode cX3_findLots 125 = .ok (.iload 4, 2) := dk_21 4 (dk_at dksX3_findLots_5 5 rfl rfl)
theorem dX3_findLots_127 : decode cX3_findLots 127 = .ok (.if_icmp .ge 7, 3) := dk_162 0 7 (dk_at dksX3_findLots_5 7 rfl rfl)
theorem dX3_findLots_130 : decode cX3_findLots 130 = .ok (.iload_n 3, 1) := dk_29 (dk_at dksX3_findLots_5 10 rfl rfl)
theorem dX3_findLots_131 : decode cX3_findLots 131 = .ok (.goto 5, 3) := dk_167 0 5 (dk_at dksX3_findLots_5 11 rfl rfl)
theorem dX3_findLots_134 : decode cX3_findLots 134 = .ok (.iload 4, 2) := dk_21 4 (dk_at dksX3_findLots_5 14 rfl rfl)
theorem dX3_findLots_136 : decode cX3_findLots 136 = .ok (.istore 5, 2) := dk_54 5 (dk_at dksX3_findLots_5 16 rfl rfl)
theorem dX3_findLots_138 : decode cX3_findLots 138 = .ok (.aload_n 0, 1) := dk_42 (dk_at dksX3_findLots_5 18 rfl rfl)
theorem dX3_findLots_139 : decode cX3_findLots 139 = .ok (.getfield 182, 3) := dk_180 0 182 (dk_at dksX3_findLots_5 19 rfl rfl)
theorem dX3_findLots_142 : decode cX3_findLots 142 = .ok (.aload_n 0, 1) := dk_42 (dk_at dksX3_findLots_5 22 rfl rfl)
theorem dX3_findLots_143 : decode cX3_findLots 143 = .ok (.getfield 173, 3) := dk_180 0 173 (dk_at dksX3_findLots_6 0 rfl rfl)
theorem dX3_findLots_146 : decode cX3_findLots 146 = .ok (.iload_n 2, 1) := dk_28 (dk_at dksX3_findLots_6 3 rfl rfl)
theorem dX3_findLots_147 : decode cX3_findLots 147 = .ok (.iaload, 1) := dk_46 (dk_at dksX3_findLots_6 4 rfl rfl)
theorem dX3_findLots_148 : decode cX3_findLots 148 = .ok (.iload 5, 2) := dk_21 5 (dk_at dksX3_findLots_6 5 rfl rfl)
theorem dX3_findLots_150 : decode cX3_findLots 150 = .ok (.iastore, 1) := dk_79 (dk_at dksX3_findLots_6 7 rfl rfl)
theorem dX3_findLots_151 : decode cX3_findLots 151 = .ok (.aload_n 0, 1) := dk_42 (dk_at dksX3_findLots_6 8 rfl rfl)
theorem dX3_findLots_152 : decode cX3_findLots 152 = .ok (.getfield 182, 3) := dk_180 0 182 (dk_at dksX3_findLots_6 9 rfl rfl)
theorem dX3_findLots_155 : decode cX3_findLots 155 = .ok (.bipush 6, 2) := dk_16 6 (dk_at dksX3_findLots_6 12 rfl rfl)
theorem dX3_findLots_157 : decode cX3_findLots 157 = .ok (.aload_n 0, 1) := dk_42 (dk_at dksX3_findLots_6 14 rfl rfl)
theorem dX3_findLots_158 : decode cX3_findLots 158 = .ok (.getfield 176, 3) := dk_180 0 176 (dk_at dksX3_findLots_6 15 rfl rfl)
theorem dX3_findLots_161 : decode cX3_findLots 161 = .ok (.iload_n 2, 1) := dk_28 (dk_at dksX3_findLots_6 18 rfl rfl)
theorem dX3_findLots_162 : decode cX3_findLots 162 = .ok (.iaload, 1) := dk_46 (dk_at dksX3_findLots_6 19 rfl rfl)
theorem dX3_findLots_163 : decode cX3_findLots 163 = .ok (.iadd, 1) := dk_96 (dk_at dksX3_findLots_6 20 rfl rfl)
theorem dX3_findLots_164 : decode cX3_findLots 164 = .ok (.iload 5, 2) := dk_21 5 (dk_at dksX3_findLots_6 21 rfl rfl)
theorem dX3_findLots_166 : decode cX3_findLots 166 = .ok (.iastore, 1) := dk_79 (dk_at dksX3_findLots_6 23 rfl rfl)
theorem dX3_findLots_167 : decode cX3_findLots 167 = .ok (.iinc 2 1, 3) := dk_132 2 1 (dk_at dksX3_findLots_7 0 rfl rfl)
theorem dX3_findLots_170 : decode cX3_findLots 170 = .ok (.goto (-82), 3) := dk_167 255 174 (dk_at dksX3_findLots_7 3 rfl rfl)
theorem dX3_findLots_173 : decode cX3_findLots 173 = .ok (.iinc 1 1, 3) := dk_132 1 1 (dk_at dksX3_findLots_7 6 rfl rfl)
theorem dX3_findLots_176 : decode cX3_findLots 176 = .ok (.goto (-96), 3) := dk_167 255 160 (dk_at dksX3_findLots_7 9 rfl rfl)
theorem dX3_findLots_179 : decode cX3_findLots 179 = .ok (.return_, 1) := dk_177 (dk_at dksX3_findLots_7 12 rfl rfl)
abbrev cX3_findGrade : ByteArray := prog_26_method_98_code
def yX3_findGrade : MethodName := ⟨RX3, "findGrade", "(I)V"⟩
def dkwX3_findGrade_18 : List UInt8 := [42, 180, 0, 189, 42, 180, 0, 192, 27, 46, 47, 22, 4, 182, 1, 244, 177]
abbrev dktX3_findGrade_18 : List UInt8 := dkwX3_findGrade_18 ++ []
def dkwX3_findGrade_17 : List UInt8 := [47, 105, 101, 22, 4, 109, 80, 132, 9, 1, 167, 255, 130, 22, 7, 55, 4, 132, 6, 1, 167, 255, 99, 42]
abbrev dktX3_findGrade_17 : List UInt8 := dkwX3_findGrade_17 ++ dktX3_findGrade_18
def dkwX3_findGrade_16 : List UInt8 := [42, 180, 0, 189, 21, 9, 22, 7, 42, 180, 0, 189, 21, 9, 47, 105, 22, 10, 42, 180, 0, 189, 21, 6]
abbrev dktX3_findGrade_16 : List UInt8 := dkwX3_findGrade_16 ++ dktX3_findGrade_17
def dkwX3_findGrade_15 : List UInt8 := [180, 0, 185, 16, 14, 21, 6, 104, 21, 12, 96, 47, 105, 101, 22, 4, 109, 80, 132, 12, 1, 167, 255, 198]
abbrev dktX3_findGrade_15 : List UInt8 := dkwX3_findGrade_15 ++ dktX3_findGrade_16
def dkwX3_findGrade_14 : List UInt8 := [104, 21, 12, 96, 22, 7, 42, 180, 0, 185, 16, 14, 21, 9, 104, 21, 12, 96, 47, 105, 22, 10, 42]
abbrev dktX3_findGrade_14 : List UInt8 := dkwX3_findGrade_14 ++ dktX3_findGrade_15
def dkwX3_findGrade_13 : List UInt8 := [104, 21, 6, 96, 47, 55, 10, 3, 54, 12, 21, 12, 29, 162, 0, 58, 42, 180, 0, 185, 16, 14, 21, 9]
abbrev dktX3_findGrade_13 : List UInt8 := dkwX3_findGrade_13 ++ dktX3_findGrade_14
def dkwX3_findGrade_12 : List UInt8 := [3, 54, 9, 21, 9, 29, 162, 0, 126, 21, 9, 21, 6, 159, 0, 113, 42, 180, 0, 185, 16, 14, 21, 9]
abbrev dktX3_findGrade_12 : List UInt8 := dkwX3_findGrade_12 ++ dktX3_findGrade_13
def dkwX3_findGrade_11 : List UInt8 := [10, 55, 4, 3, 54, 6, 21, 6, 29, 162, 0, 157, 42, 180, 0, 185, 16, 15, 21, 6, 104, 47, 55, 7]
abbrev dktX3_findGrade_11 : List UInt8 := dkwX3_findGrade_11 ++ dktX3_findGrade_12
def dkwX3_findGrade_10 : List UInt8 := [180, 0, 173, 21, 4, 46, 46, 42, 180, 0, 179, 21, 4, 46, 133, 182, 1, 240, 132, 4, 1, 167, 255, 145]
abbrev dktX3_findGrade_10 : List UInt8 := dkwX3_findGrade_10 ++ dktX3_findGrade_11
def dkwX3_findGrade_9 : List UInt8 := [182, 1, 240, 42, 42, 180, 0, 192, 16, 6, 42, 180, 0, 176, 21, 4, 46, 96, 46, 42, 180, 0, 192, 42]
abbrev dktX3_findGrade_9 : List UInt8 := dkwX3_findGrade_9 ++ dktX3_findGrade_10
def dkwX3_findGrade_8 : List UInt8 := [180, 0, 192, 16, 6, 42, 180, 0, 176, 21, 4, 46, 96, 46, 42, 180, 0, 179, 21, 4, 46, 133]
abbrev dktX3_findGrade_8 : List UInt8 := dkwX3_findGrade_8 ++ dktX3_findGrade_9
def dkwX3_findGrade_7 : List UInt8 := [180, 0, 182, 27, 46, 160, 0, 81, 42, 42, 180, 0, 192, 42, 180, 0, 173, 21, 4, 46, 46, 42]
abbrev dktX3_findGrade_7 : List UInt8 := dkwX3_findGrade_7 ++ dktX3_findGrade_8
def dkwX3_findGrade_6 : List UInt8 := [21, 4, 42, 180, 1, 224, 162, 0, 108, 42, 180, 0, 182, 42, 180, 0, 173, 21, 4, 46, 46, 42]
abbrev dktX3_findGrade_6 : List UInt8 := dkwX3_findGrade_6 ++ dktX3_findGrade_7
def dkwX3_findGrade_5 : List UInt8 := [21, 4, 16, 14, 162, 0, 17, 42, 180, 0, 189, 21, 4, 9, 80, 132, 4, 1, 167, 255, 238, 3, 54, 4]
abbrev dktX3_findGrade_5 : List UInt8 := dkwX3_findGrade_5 ++ dktX3_findGrade_6
def dkwX3_findGrade_4 : List UInt8 := [17, 0, 196, 162, 0, 17, 42, 180, 0, 185, 21, 4, 9, 80, 132, 4, 1, 167, 255, 237, 3, 54, 4]
abbrev dktX3_findGrade_4 : List UInt8 := dkwX3_findGrade_4 ++ dktX3_findGrade_5
def dkwX3_findGrade_3 : List UInt8 := [167, 255, 204, 27, 28, 160, 0, 14, 42, 9, 181, 1, 227, 42, 10, 181, 1, 231, 177, 3, 54, 4, 21, 4]
abbrev dktX3_findGrade_3 : List UInt8 := dkwX3_findGrade_3 ++ dktX3_findGrade_4
def dkwX3_findGrade_2 : List UInt8 := [46, 160, 0, 20, 21, 4, 28, 159, 0, 14, 42, 180, 0, 192, 21, 4, 29, 79, 132, 3, 1, 132, 4, 1]
abbrev dktX3_findGrade_2 : List UInt8 := dkwX3_findGrade_2 ++ dktX3_findGrade_3
def dkwX3_findGrade_1 : List UInt8 := [162, 0, 51, 42, 180, 0, 192, 21, 4, 16, 252, 79, 42, 180, 0, 182, 21, 4, 46, 42, 180, 0, 182, 27]
abbrev dktX3_findGrade_1 : List UInt8 := dkwX3_findGrade_1 ++ dktX3_findGrade_2
def dkwX3_findGrade_0 : List UInt8 := [42, 182, 1, 234, 42, 42, 180, 0, 182, 27, 46, 182, 1, 237, 61, 3, 62, 3, 54, 4, 21, 4, 16, 14]
abbrev dktX3_findGrade_0 : List UInt8 := dkwX3_findGrade_0 ++ dktX3_findGrade_1
theorem dksX3_findGrade_0 : cX3_findGrade.data.toList.drop 0 = dktX3_findGrade_0 := by decide +kernel
theorem dksX3_findGrade_1 : cX3_findGrade.data.toList.drop 24 = dktX3_findGrade_1 := dk_seg dksX3_findGrade_0 24 rfl rfl
theorem dksX3_findGrade_2 : cX3_findGrade.data.toList.drop 48 = dktX3_findGrade_2 := dk_seg dksX3_findGrade_1 24 rfl rfl
theorem dksX3_findGrade_3 : cX3_findGrade.data.toList.drop 72 = dktX3_findGrade_3 := dk_seg dksX3_findGrade_2 24 rfl rfl
theorem dksX3_findGrade_4 : cX3_findGrade.data.toList.drop 96 = dktX3_findGrade_4 := dk_seg dksX3_findGrade_3 24 rfl rfl
theorem dksX3_findGrade_5 : cX3_findGrade.data.toList.drop 119 = dktX3_findGrade_5 := dk_seg dksX3_findGrade_4 23 rfl rfl
theorem dksX3_findGrade_6 : cX3_findGrade.data.toList.drop 143 = dktX3_findGrade_6 := dk_seg dksX3_findGrade_5 24 rfl rfl
theorem dksX3_findGrade_7 : cX3_findGrade.data.toList.drop 165 = dktX3_findGrade_7 := dk_seg dksX3_findGrade_6 22 rfl rfl
theorem dksX3_findGrade_8 : cX3_findGrade.data.toList.drop 187 = dktX3_findGrade_8 := dk_seg dksX3_findGrade_7 22 rfl rfl
theorem dksX3_findGrade_9 : cX3_findGrade.data.toList.drop 209 = dktX3_findGrade_9 := dk_seg dksX3_findGrade_8 22 rfl rfl
theorem dksX3_findGrade_10 : cX3_findGrade.data.toList.drop 233 = dktX3_findGrade_10 := dk_seg dksX3_findGrade_9 24 rfl rfl
theorem dksX3_findGrade_11 : cX3_findGrade.data.toList.drop 257 = dktX3_findGrade_11 := dk_seg dksX3_findGrade_10 24 rfl rfl
theorem dksX3_findGrade_12 : cX3_findGrade.data.toList.drop 281 = dktX3_findGrade_12 := dk_seg dksX3_findGrade_11 24 rfl rfl
theorem dksX3_findGrade_13 : cX3_findGrade.data.toList.drop 305 = dktX3_findGrade_13 := dk_seg dksX3_findGrade_12 24 rfl rfl
theorem dksX3_findGrade_14 : cX3_findGrade.data.toList.drop 329 = dktX3_findGrade_14 := dk_seg dksX3_findGrade_13 24 rfl rfl
theorem dksX3_findGrade_15 : cX3_findGrade.data.toList.drop 352 = dktX3_findGrade_15 := dk_seg dksX3_findGrade_14 23 rfl rfl
theorem dksX3_findGrade_16 : cX3_findGrade.data.toList.drop 376 = dktX3_findGrade_16 := dk_seg dksX3_findGrade_15 24 rfl rfl
theorem dksX3_findGrade_17 : cX3_findGrade.data.toList.drop 400 = dktX3_findGrade_17 := dk_seg dksX3_findGrade_16 24 rfl rfl
theorem dksX3_findGrade_18 : cX3_findGrade.data.toList.drop 424 = dktX3_findGrade_18 := dk_seg dksX3_findGrade_17 24 rfl rfl
theorem dX3_findGrade_0 : decode cX3_findGrade 0 = .ok (.aload_n 0, 1) := dk_42 (dk_at dksX3_findGrade_0 0 rfl rfl)
theorem dX3_findGrade_1 : decode cX3_findGrade 1 = .ok (.invokevirtual 490, 3) := dk_182 1 234 (dk_at dksX3_findGrade_0 1 rfl rfl)
theorem dX3_findGrade_4 : decode cX3_findGrade 4 = .ok (.aload_n 0, 1) := dk_42 (dk_at dksX3_findGrade_0 4 rfl rfl)
theorem dX3_findGrade_5 : decode cX3_findGrade 5 = .ok (.aload_n 0, 1) := dk_42 (dk_at dksX3_findGrade_0 5 rfl rfl)
theorem dX3_findGrade_6 : decode cX3_findGrade 6 = .ok (.getfield 182, 3) := dk_180 0 182 (dk_at dksX3_findGrade_0 6 rfl rfl)
theorem dX3_findGrade_9 : decode cX3_findGrade 9 = .ok (.iload_n 1, 1) := dk_27 (dk_at dksX3_findGrade_0 9 rfl rfl)
theorem dX3_findGrade_10 : decode cX3_findGrade 10 = .ok (.iaload, 1) := dk_46 (dk_at dksX3_findGrade_0 10 rfl rfl)
theorem dX3_findGrade_11 : decode cX3_findGrade 11 = .ok (.invokevirtual 493, 3) := dk_182 1 237 (dk_at dksX3_findGrade_0 11 rfl rfl)
theorem dX3_findGrade_14 : decode cX3_findGrade 14 = .ok (.istore_n 2, 1) := dk_61 (dk_at dksX3_findGrade_0 14 rfl rfl)
theorem dX3_findGrade_15 : decode cX3_findGrade 15 = .ok (.iconst 0, 1) := dk_3 (dk_at dksX3_findGrade_0 15 rfl rfl)
theorem dX3_findGrade_16 : decode cX3_findGrade 16 = .ok (.istore_n 3, 1) := dk_62 (dk_at dksX3_findGrade_0 16 rfl rfl)
theorem dX3_findGrade_17 : decode cX3_findGrade 17 = .ok (.iconst 0, 1) := dk_3 (dk_at dksX3_findGrade_0 17 rfl rfl)
theorem dX3_findGrade_18 : decode cX3_findGrade 18 = .ok (.istore 4, 2) := dk_54 4 (dk_at dksX3_findGrade_0 18 rfl rfl)
theorem dX3_findGrade_20 : decode cX3_findGrade 20 = .ok (.iload 4, 2) := dk_21 4 (dk_at dksX3_findGrade_0 20 rfl rfl)
theorem dX3_findGrade_22 : decode cX3_findGrade 22 = .ok (.bipush 14, 2) := dk_16 14 (dk_at dksX3_findGrade_0 22 rfl rfl)
theorem dX3_findGrade_24 : decode cX3_findGrade 24 = .ok (.if_icmp .ge 51, 3) := dk_162 0 51 (dk_at dksX3_findGrade_1 0 rfl rfl)
theorem dX3_findGrade_27 : decode cX3_findGrade 27 = .ok (.aload_n 0, 1) := dk_42 (dk_at dksX3_findGrade_1 3 rfl rfl)
theorem dX3_findGrade_28 : decode cX3_findGrade 28 = .ok (.getfield 192, 3) := dk_180 0 192 (dk_at dksX3_findGrade_1 4 rfl rfl)
theorem dX3_findGrade_31 : decode cX3_findGrade 31 = .ok (.iload 4, 2) := dk_21 4 (dk_at dksX3_findGrade_1 7 rfl rfl)
theorem dX3_findGrade_33 : decode cX3_findGrade 33 = .ok (.bipush (-4), 2) := dk_16 252 (dk_at dksX3_findGrade_1 9 rfl rfl)
theorem dX3_findGrade_35 : decode cX3_findGrade 35 = .ok (.iastore, 1) := dk_79 (dk_at dksX3_findGrade_1 11 rfl rfl)
theorem dX3_findGrade_36 : decode cX3_findGrade 36 = .ok (.aload_n 0, 1) := dk_42 (dk_at dksX3_findGrade_1 12 rfl rfl)
theorem dX3_findGrade_37 : decode cX3_findGrade 37 = .ok (.getfield 182, 3) := dk_180 0 182 (dk_at dksX3_findGrade_1 13 rfl rfl)
theorem dX3_findGrade_40 : decode cX3_findGrade 40 = .ok (.iload 4, 2) := dk_21 4 (dk_at dksX3_findGrade_1 16 rfl rfl)
theorem dX3_findGrade_42 : decode cX3_findGrade 42 = .ok (.iaload, 1) := dk_46 (dk_at dksX3_findGrade_1 18 rfl rfl)
theorem dX3_findGrade_43 : decode cX3_findGrade 43 = .ok (.aload_n 0, 1) := dk_42 (dk_at dksX3_findGrade_1 19 rfl rfl)
theorem dX3_findGrade_44 : decode cX3_findGrade 44 = .ok (.getfield 182, 3) := dk_180 0 182 (dk_at dksX3_findGrade_1 20 rfl rfl)
theorem dX3_findGrade_47 : decode cX3_findGrade 47 = .ok (.iload_n 1, 1) := dk_27 (dk_at dksX3_findGrade_1 23 rfl rfl)
theorem dX3_findGrade_48 : decode cX3_findGrade 48 = .ok (.iaload, 1) := dk_46 (dk_at dksX3_findGrade_2 0 rfl rfl)
theorem dX3_findGrade_49 : decode cX3_findGrade 49 = .ok (.if_icmp .ne 20, 3) := dk_160 0 20 (dk_at dksX3_findGrade_2 1 rfl rfl)
theorem dX3_findGrade_52 : decode cX3_findGrade 52 = .ok (.iload 4, 2) := dk_21 4 (dk_at dksX3_findGrade_2 4 rfl rfl)
theorem dX3_findGrade_54 : decode cX3_findGrade 54 = .ok (.iload_n 2, 1) := dk_28 (dk_at dksX3_findGrade_2 6 rfl rfl)
theorem dX3_findGrade_55 : decode cX3_findGrade 55 = .ok (.if_icmp .eq 14, 3) := dk_159 0 14 (dk_at dksX3_findGrade_2 7 rfl rfl)
theorem dX3_findGrade_58 : decode cX3_findGrade 58 = .ok (.aload_n 0, 1) := dk_42 (dk_at dksX3_findGrade_2 10 rfl rfl)
theorem dX3_findGrade_59 : decode cX3_findGrade 59 = .ok (.getfield 192, 3) := dk_180 0 192 (dk_at dksX3_findGrade_2 11 rfl rfl)
theorem dX3_findGrade_62 : decode cX3_findGrade 62 = .ok (.iload 4, 2) := dk_21 4 (dk_at dksX3_findGrade_2 14 rfl rfl)
theorem dX3_findGrade_64 : decode cX3_findGrade 64 = .ok (.iload_n 3, 1) := dk_29 (dk_at dksX3_findGrade_2 16 rfl rfl)
theorem dX3_findGrade_65 : decode cX3_findGrade 65 = .ok (.iastore, 1) := dk_79 (dk_at dksX3_findGrade_2 17 rfl rfl)
theorem dX3_findGrade_66 : decode cX3_findGrade 66 = .ok (.iinc 3 1, 3) := dk_132 3 1 (dk_at dksX3_findGrade_2 18 rfl rfl)
theorem dX3_findGrade_69 : decode cX3_findGrade 69 = .ok (.iinc 4 1, 3) := dk_132 4 1 (dk_at dksX3_findGrade_2 21 rfl rfl)
theorem dX3_findGrade_72 : decode cX3_findGrade 72 = .ok (.goto (-52), 3) := dk_167 255 204 (dk_at dksX3_findGrade_3 0 rfl rfl)
theorem dX3_findGrade_75 : decode cX3_findGrade 75 = .ok (.iload_n 1, 1) := dk_27 (dk_at dksX3_findGrade_3 3 rfl rfl)
theorem dX3_findGrade_76 : decode cX3_findGrade 76 = .ok (.iload_n 2, 1) := dk_28 (dk_at dksX3_findGrade_3 4 rfl rfl)
theorem dX3_findGrade_77 : decode cX3_findGrade 77 = .ok (.if_icmp .ne 14, 3) := dk_160 0 14 (dk_at dksX3_findGrade_3 5 rfl rfl)
theorem dX3_findGrade_80 : decode cX3_findGrade 80 = .ok (.aload_n 0, 1) := dk_42 (dk_at dksX3_findGrade_3 8 rfl rfl)
theorem dX3_findGrade_81 : decode cX3_findGrade 81 = .ok (.lconst 0, 1) := dk_9 (dk_at dksX3_findGrade_3 9 rfl rfl)
theorem dX3_findGrade_82 : decode cX3_findGrade 82 = .ok (.putfield 483, 3) := dk_181 1 227 (dk_at dksX3_findGrade_3 10 rfl rfl)
theorem dX3_findGrade_85 : decode cX3_findGrade 85 = .ok (.aload_n 0, 1) := dk_42 (dk_at dksX3_findGrade_3 13 rfl rfl)
theorem dX3_findGrade_86 : decode cX3_findGrade 86 = .ok (.lconst 1, 1) := dk_10 (dk_at dksX3_findGrade_3 14 rfl rfl)
theorem dX3_findGrade_87 : decode cX3_findGrade 87 = .ok (.putfield 487, 3) := dk_181 1 231 (dk_at dksX3_findGrade_3 15 rfl rfl)
theorem dX3_findGrade_90 : decode cX3_findGrade 90 = .ok (.return_, 1) := dk_177 (dk_at dksX3_findGrade_3 18 rfl rfl)
theorem dX3_findGrade_91 : decode cX3_findGrade 91 = .ok (.iconst 0, 1) := dk_3 (dk_at dksX3_findGrade_3 19 rfl rfl)
theorem dX3_findGrade_92 : decode cX3_findGrade 92 = .ok (.istore 4, 2) := dk_54 4 (dk_at dksX3_findGrade_3 20 rfl rfl)
theorem dX3_findGrade_94 : decode cX3_findGrade 94 = .ok (.iload 4, 2) := dk_21 4 (dk_at dksX3_findGrade_3 22 rfl rfl)
theorem dX3_findGrade_96 : decode cX3_findGrade 96 = .ok (.sipush 196, 3) := dk_17 0 196 (dk_at dksX3_findGrade_4 0 rfl rfl)
theorem dX3_findGrade_99 : decode cX3_findGrade 99 = .ok (.if_icmp .ge 17, 3) := dk_162 0 17 (dk_at dksX3_findGrade_4 3 rfl rfl)
theorem dX3_findGrade_102 : decode cX3_findGrade 102 = .ok (.aload_n 0, 1) := dk_42 (dk_at dksX3_findGrade_4 6 rfl rfl)
theorem dX3_findGrade_103 : decode cX3_findGrade 103 = .ok (.getfield 185, 3) := dk_180 0 185 (dk_at dksX3_findGrade_4 7 rfl rfl)
theorem dX3_findGrade_106 : decode cX3_findGrade 106 = .ok (.iload 4, 2) := dk_21 4 (dk_at dksX3_findGrade_4 10 rfl rfl)
theorem dX3_findGrade_108 : decode cX3_findGrade 108 = .ok (.lconst 0, 1) := dk_9 (dk_at dksX3_findGrade_4 12 rfl rfl)
theorem dX3_findGrade_109 : decode cX3_findGrade 109 = .ok (.lastore, 1) := dk_80 (dk_at dksX3_findGrade_4 13 rfl rfl)
theorem dX3_findGrade_110 : decode cX3_findGrade 110 = .ok (.iinc 4 1, 3) := dk_132 4 1 (dk_at dksX3_findGrade_4 14 rfl rfl)
theorem dX3_findGrade_113 : decode cX3_findGrade 113 = .ok (.goto (-19), 3) := dk_167 255 237 (dk_at dksX3_findGrade_4 17 rfl rfl)
theorem dX3_findGrade_116 : decode cX3_findGrade 116 = .ok (.iconst 0, 1) := dk_3 (dk_at dksX3_findGrade_4 20 rfl rfl)
theorem dX3_findGrade_117 : decode cX3_findGrade 117 = .ok (.istore 4, 2) := dk_54 4 (dk_at dksX3_findGrade_4 21 rfl rfl)
theorem dX3_findGrade_119 : decode cX3_findGrade 119 = .ok (.iload 4, 2) := dk_21 4 (dk_at dksX3_findGrade_5 0 rfl rfl)
theorem dX3_findGrade_121 : decode cX3_findGrade 121 = .ok (.bipush 14, 2) := dk_16 14 (dk_at dksX3_findGrade_5 2 rfl rfl)
theorem dX3_findGrade_123 : decode cX3_findGrade 123 = .ok (.if_icmp .ge 17, 3) := dk_162 0 17 (dk_at dksX3_findGrade_5 4 rfl rfl)
theorem dX3_findGrade_126 : decode cX3_findGrade 126 = .ok (.aload_n 0, 1) := dk_42 (dk_at dksX3_findGrade_5 7 rfl rfl)
theorem dX3_findGrade_127 : decode cX3_findGrade 127 = .ok (.getfield 189, 3) := dk_180 0 189 (dk_at dksX3_findGrade_5 8 rfl rfl)
theorem dX3_findGrade_130 : decode cX3_findGrade 130 = .ok (.iload 4, 2) := dk_21 4 (dk_at dksX3_findGrade_5 11 rfl rfl)
theorem dX3_findGrade_132 : decode cX3_findGrade 132 = .ok (.lconst 0, 1) := dk_9 (dk_at dksX3_findGrade_5 13 rfl rfl)
theorem dX3_findGrade_133 : decode cX3_findGrade 133 = .ok (.lastore, 1) := dk_80 (dk_at dksX3_findGrade_5 14 rfl rfl)
theorem dX3_findGrade_134 : decode cX3_findGrade 134 = .ok (.iinc 4 1, 3) := dk_132 4 1 (dk_at dksX3_findGrade_5 15 rfl rfl)
theorem dX3_findGrade_137 : decode cX3_findGrade 137 = .ok (.goto (-18), 3) := dk_167 255 238 (dk_at dksX3_findGrade_5 18 rfl rfl)
theorem dX3_findGrade_140 : decode cX3_findGrade 140 = .ok (.iconst 0, 1) := dk_3 (dk_at dksX3_findGrade_5 21 rfl rfl)
theorem dX3_findGrade_141 : decode cX3_findGrade 141 = .ok (.istore 4, 2) := dk_54 4 (dk_at dksX3_findGrade_5 22 rfl rfl)
theorem dX3_findGrade_143 : decode cX3_findGrade 143 = .ok (.iload 4, 2) := dk_21 4 (dk_at dksX3_findGrade_6 0 rfl rfl)
theorem dX3_findGrade_145 : decode cX3_findGrade 145 = .ok (.aload_n 0, 1) := dk_42 (dk_at dksX3_findGrade_6 2 rfl rfl)
theorem dX3_findGrade_146 : decode cX3_findGrade 146 = .ok (.getfield 480, 3) := dk_180 1 224 (dk_at dksX3_findGrade_6 3 rfl rfl)
theorem dX3_findGrade_149 : decode cX3_findGrade 149 = .ok (.if_icmp .ge 108, 3) := dk_162 0 108 (dk_at dksX3_findGrade_6 6 rfl rfl)
theorem dX3_findGrade_152 : decode cX3_findGrade 152 = .ok (.aload_n 0, 1) := dk_42 (dk_at dksX3_findGrade_6 9 rfl rfl)
theorem dX3_findGrade_153 : decode cX3_findGrade 153 = .ok (.getfield 182, 3) := dk_180 0 182 (dk_at dksX3_findGrade_6 10 rfl rfl)
theorem dX3_findGrade_156 : decode cX3_findGrade 156 = .ok (.aload_n 0, 1) := dk_42 (dk_at dksX3_findGrade_6 13 rfl rfl)
theorem dX3_findGrade_157 : decode cX3_findGrade 157 = .ok (.getfield 173, 3) := dk_180 0 173 (dk_at dksX3_findGrade_6 14 rfl rfl)
theorem dX3_findGrade_160 : decode cX3_findGrade 160 = .ok (.iload 4, 2) := dk_21 4 (dk_at dksX3_findGrade_6 17 rfl rfl)
theorem dX3_findGrade_162 : decode cX3_findGrade 162 = .ok (.iaload, 1) := dk_46 (dk_at dksX3_findGrade_6 19 rfl rfl)
theorem dX3_findGrade_163 : decode cX3_findGrade 163 = .ok (.iaload, 1) := dk_46 (dk_at dksX3_findGrade_6 20 rfl rfl)
theorem dX3_findGrade_164 : decode cX3_findGrade 164 = .ok (.aload_n 0, 1) := dk_42 (dk_at dksX3_findGrade_6 21 rfl rfl)
theorem dX3_findGrade_165 : decode cX3_findGrade 165 = .ok (.getfield 182, 3) := dk_180 0 182 (dk_at dksX3_findGrade_7 0 rfl rfl)
theorem dX3_findGrade_168 : decode cX3_findGrade 168 = .ok (.iload_n 1, 1) := dk_27 (dk_at dksX3_findGrade_7 3 rfl rfl)
theorem dX3_findGrade_169 : decode cX3_findGrade 169 = .ok (.iaload, 1) := dk_46 (dk_at dksX3_findGrade_7 4 rfl rfl)
theorem dX3_findGrade_170 : decode cX3_findGrade 170 = .ok (.if_icmp .ne 81, 3) := dk_160 0 81 (dk_at dksX3_findGrade_7 5 rfl rfl)
theorem dX3_findGrade_173 : decode cX3_findGrade 173 = .ok (.aload_n 0, 1) := dk_42 (dk_at dksX3_findGrade_7 8 rfl rfl)
theorem dX3_findGrade_174 : decode cX3_findGrade 174 = .ok (.aload_n 0, 1) := dk_42 (dk_at dksX3_findGrade_7 9 rfl rfl)
theorem dX3_findGrade_175 : decode cX3_findGrade 175 = .ok (.getfield 192, 3) := dk_180 0 192 (dk_at dksX3_findGrade_7 10 rfl rfl)
theorem dX3_findGrade_178 : decode cX3_findGrade 178 = .ok (.aload_n 0, 1) := dk_42 (dk_at dksX3_findGrade_7 13 rfl rfl)
theorem dX3_findGrade_179 : decode cX3_findGrade 179 = .ok (.getfield 173, 3) := dk_180 0 173 (dk_at dksX3_findGrade_7 14 rfl rfl)
theorem dX3_findGrade_182 : decode cX3_findGrade 182 = .ok (.iload 4, 2) := dk_21 4 (dk_at dksX3_findGrade_7 17 rfl rfl)
theorem dX3_findGrade_184 : decode cX3_findGrade 184 = .ok (.iaload, 1) := dk_46 (dk_at dksX3_findGrade_7 19 rfl rfl)
theorem dX3_findGrade_185 : decode cX3_findGrade 185 = .ok (.iaload, 1) := dk_46 (dk_at dksX3_findGrade_7 20 rfl rfl)
theorem dX3_findGrade_186 : decode cX3_findGrade 186 = .ok (.aload_n 0, 1) := dk_42 (dk_at dksX3_findGrade_7 21 rfl rfl)
theorem dX3_findGrade_187 : decode cX3_findGrade 187 = .ok (.getfield 192, 3) := dk_180 0 192 (dk_at dksX3_findGrade_8 0 rfl rfl)
theorem dX3_findGrade_190 : decode cX3_findGrade 190 = .ok (.bipush 6, 2) := dk_16 6 (dk_at dksX3_findGrade_8 3 rfl rfl)
theorem dX3_findGrade_192 : decode cX3_findGrade 192 = .ok (.aload_n 0, 1) := dk_42 (dk_at dksX3_findGrade_8 5 rfl rfl)
theorem dX3_findGrade_193 : decode cX3_findGrade 193 = .ok (.getfield 176, 3) := dk_180 0 176 (dk_at dksX3_findGrade_8 6 rfl rfl)
theorem dX3_findGrade_196 : decode cX3_findGrade 196 = .ok (.iload 4, 2) := dk_21 4 (dk_at dksX3_findGrade_8 9 rfl rfl)
theorem dX3_findGrade_198 : decode cX3_findGrade 198 = .ok (.iaload, 1) := dk_46 (dk_at dksX3_findGrade_8 11 rfl rfl)
theorem dX3_findGrade_199 : decode cX3_findGrade 199 = .ok (.iadd, 1) := dk_96 (dk_at dksX3_findGrade_8 12 rfl rfl)
theorem dX3_findGrade_200 : decode cX3_findGrade 200 = .ok (.iaload, 1) := dk_46 (dk_at dksX3_findGrade_8 13 rfl rfl)
theorem dX3_findGrade_201 : decode cX3_findGrade 201 = .ok (.aload_n 0, 1) := dk_42 (dk_at dksX3_findGrade_8 14 rfl rfl)
theorem dX3_findGrade_202 : decode cX3_findGrade 202 = .ok (.getfield 179, 3) := dk_180 0 179 (dk_at dksX3_findGrade_8 15 rfl rfl)
theorem dX3_findGrade_205 : decode cX3_findGrade 205 = .ok (.iload 4, 2) := dk_21 4 (dk_at dksX3_findGrade_8 18 rfl rfl)
theorem dX3_findGrade_207 : decode cX3_findGrade 207 = .ok (.iaload, 1) := dk_46 (dk_at dksX3_findGrade_8 20 rfl rfl)
theorem dX3_findGrade_208 : decode cX3_findGrade 208 = .ok (.i2l, 1) := dk_133 (dk_at dksX3_findGrade_8 21 rfl rfl)
theorem dX3_findGrade_209 : decode cX3_findGrade 209 = .ok (.invokevirtual 496, 3) := dk_182 1 240 (dk_at dksX3_findGrade_9 0 rfl rfl)
theorem dX3_findGrade_212 : decode cX3_findGrade 212 = .ok (.aload_n 0, 1) := dk_42 (dk_at dksX3_findGrade_9 3 rfl rfl)
theorem dX3_findGrade_213 : decode cX3_findGrade 213 = .ok (.aload_n 0, 1) := dk_42 (dk_at dksX3_findGrade_9 4 rfl rfl)
theorem dX3_findGrade_214 : decode cX3_findGrade 214 = .ok (.getfield 192, 3) := dk_180 0 192 (dk_at dksX3_findGrade_9 5 rfl rfl)
theorem dX3_findGrade_217 : decode cX3_findGrade 217 = .ok (.bipush 6, 2) := dk_16 6 (dk_at dksX3_findGrade_9 8 rfl rfl)
theorem dX3_findGrade_219 : decode cX3_findGrade 219 = .ok (.aload_n 0, 1) := dk_42 (dk_at dksX3_findGrade_9 10 rfl rfl)
theorem dX3_findGrade_220 : decode cX3_findGrade 220 = .ok (.getfield 176, 3) := dk_180 0 176 (dk_at dksX3_findGrade_9 11 rfl rfl)
theorem dX3_findGrade_223 : decode cX3_findGrade 223 = .ok (.iload 4, 2) := dk_21 4 (dk_at dksX3_findGrade_9 14 rfl rfl)
theorem dX3_findGrade_225 : decode cX3_findGrade 225 = .ok (.iaload, 1) := dk_46 (dk_at dksX3_findGrade_9 16 rfl rfl)
theorem dX3_findGrade_226 : decode cX3_findGrade 226 = .ok (.iadd, 1) := dk_96 (dk_at dksX3_findGrade_9 17 rfl rfl)
theorem dX3_findGrade_227 : decode cX3_findGrade 227 = .ok (.iaload, 1) := dk_46 (dk_at dksX3_findGrade_9 18 rfl rfl)
theorem dX3_findGrade_228 : decode cX3_findGrade 228 = .ok (.aload_n 0, 1) := dk_42 (dk_at dksX3_findGrade_9 19 rfl rfl)
theorem dX3_findGrade_229 : decode cX3_findGrade 229 = .ok (.getfield 192, 3) := dk_180 0 192 (dk_at dksX3_findGrade_9 20 rfl rfl)
theorem dX3_findGrade_232 : decode cX3_findGrade 232 = .ok (.aload_n 0, 1) := dk_42 (dk_at dksX3_findGrade_9 23 rfl rfl)
theorem dX3_findGrade_233 : decode cX3_findGrade 233 = .ok (.getfield 173, 3) := dk_180 0 173 (dk_at dksX3_findGrade_10 0 rfl rfl)
theorem dX3_findGrade_236 : decode cX3_findGrade 236 = .ok (.iload 4, 2) := dk_21 4 (dk_at dksX3_findGrade_10 3 rfl rfl)
theorem dX3_findGrade_238 : decode cX3_findGrade 238 = .ok (.iaload, 1) := dk_46 (dk_at dksX3_findGrade_10 5 rfl rfl)
theorem dX3_findGrade_239 : decode cX3_findGrade 239 = .ok (.iaload, 1) := dk_46 (dk_at dksX3_findGrade_10 6 rfl rfl)
theorem dX3_findGrade_240 : decode cX3_findGrade 240 = .ok (.aload_n 0, 1) := dk_42 (dk_at dksX3_findGrade_10 7 rfl rfl)
theorem dX3_findGrade_241 : decode cX3_findGrade 241 = .ok (.getfield 179, 3) := dk_180 0 179 (dk_at dksX3_findGrade_10 8 rfl rfl)
theorem dX3_findGrade_244 : decode cX3_findGrade 244 = .ok (.iload 4, 2) := dk_21 4 (dk_at dksX3_findGrade_10 11 rfl rfl)
theorem dX3_findGrade_246 : decode cX3_findGrade 246 = .ok (.iaload, 1) := dk_46 (dk_at dksX3_findGrade_10 13 rfl rfl)
theorem dX3_findGrade_247 : decode cX3_findGrade 247 = .ok (.i2l, 1) := dk_133 (dk_at dksX3_findGrade_10 14 rfl rfl)
theorem dX3_findGrade_248 : decode cX3_findGrade 248 = .ok (.invokevirtual 496, 3) := dk_182 1 240 (dk_at dksX3_findGrade_10 15 rfl rfl)
theorem dX3_findGrade_251 : decode cX3_findGrade 251 = .ok (.iinc 4 1, 3) := dk_132 4 1 (dk_at dksX3_findGrade_10 18 rfl rfl)
theorem dX3_findGrade_254 : decode cX3_findGrade 254 = .ok (.goto (-111), 3) := dk_167 255 145 (dk_at dksX3_findGrade_10 21 rfl rfl)
theorem dX3_findGrade_257 : decode cX3_findGrade 257 = .ok (.lconst 1, 1) := dk_10 (dk_at dksX3_findGrade_11 0 rfl rfl)
theorem dX3_findGrade_258 : decode cX3_findGrade 258 = .ok (.lstore 4, 2) := dk_55 4 (dk_at dksX3_findGrade_11 1 rfl rfl)
theorem dX3_findGrade_260 : decode cX3_findGrade 260 = .ok (.iconst 0, 1) := dk_3 (dk_at dksX3_findGrade_11 3 rfl rfl)
theorem dX3_findGrade_261 : decode cX3_findGrade 261 = .ok (.istore 6, 2) := dk_54 6 (dk_at dksX3_findGrade_11 4 rfl rfl)
theorem dX3_findGrade_263 : decode cX3_findGrade 263 = .ok (.iload 6, 2) := dk_21 6 (dk_at dksX3_findGrade_11 6 rfl rfl)
theorem dX3_findGrade_265 : decode cX3_findGrade 265 = .ok (.iload_n 3, 1) := dk_29 (dk_at dksX3_findGrade_11 8 rfl rfl)
theorem dX3_findGrade_266 : decode cX3_findGrade 266 = .ok (.if_icmp .ge 157, 3) := dk_162 0 157 (dk_at dksX3_findGrade_11 9 rfl rfl)
theorem dX3_findGrade_269 : decode cX3_findGrade 269 = .ok (.aload_n 0, 1) := dk_42 (dk_at dksX3_findGrade_11 12 rfl rfl)
theorem dX3_findGrade_270 : decode cX3_findGrade 270 = .ok (.getfield 185, 3) := dk_180 0 185 (dk_at dksX3_findGrade_11 13 rfl rfl)
theorem dX3_findGrade_273 : decode cX3_findGrade 273 = .ok (.bipush 15, 2) := dk_16 15 (dk_at dksX3_findGrade_11 16 rfl rfl)
theorem dX3_findGrade_275 : decode cX3_findGrade 275 = .ok (.iload 6, 2) := dk_21 6 (dk_at dksX3_findGrade_11 18 rfl rfl)
theorem dX3_findGrade_277 : decode cX3_findGrade 277 = .ok (.imul, 1) := dk_104 (dk_at dksX3_findGrade_11 20 rfl rfl)
theorem dX3_findGrade_278 : decode cX3_findGrade 278 = .ok (.laload, 1) := dk_47 (dk_at dksX3_findGrade_11 21 rfl rfl)
theorem dX3_findGrade_279 : decode cX3_findGrade 279 = .ok (.lstore 7, 2) := dk_55 7 (dk_at dksX3_findGrade_11 22 rfl rfl)
theorem dX3_findGrade_281 : decode cX3_findGrade 281 = .ok (.iconst 0, 1) := dk_3 (dk_at dksX3_findGrade_12 0 rfl rfl)
theorem dX3_findGrade_282 : decode cX3_findGrade 282 = .ok (.istore 9, 2) := dk_54 9 (dk_at dksX3_findGrade_12 1 rfl rfl)
theorem dX3_findGrade_284 : decode cX3_findGrade 284 = .ok (.iload 9, 2) := dk_21 9 (dk_at dksX3_findGrade_12 3 rfl rfl)
theorem dX3_findGrade_286 : decode cX3_findGrade 286 = .ok (.iload_n 3, 1) := dk_29 (dk_at dksX3_findGrade_12 5 rfl rfl)
theorem dX3_findGrade_287 : decode cX3_findGrade 287 = .ok (.if_icmp .ge 126, 3) := dk_162 0 126 (dk_at dksX3_findGrade_12 6 rfl rfl)
theorem dX3_findGrade_290 : decode cX3_findGrade 290 = .ok (.iload 9, 2) := dk_21 9 (dk_at dksX3_findGrade_12 9 rfl rfl)
theorem dX3_findGrade_292 : decode cX3_findGrade 292 = .ok (.iload 6, 2) := dk_21 6 (dk_at dksX3_findGrade_12 11 rfl rfl)
theorem dX3_findGrade_294 : decode cX3_findGrade 294 = .ok (.if_icmp .eq 113, 3) := dk_159 0 113 (dk_at dksX3_findGrade_12 13 rfl rfl)
theorem dX3_findGrade_297 : decode cX3_findGrade 297 = .ok (.aload_n 0, 1) := dk_42 (dk_at dksX3_findGrade_12 16 rfl rfl)
theorem dX3_findGrade_298 : decode cX3_findGrade 298 = .ok (.getfield 185, 3) := dk_180 0 185 (dk_at dksX3_findGrade_12 17 rfl rfl)
theorem dX3_findGrade_301 : decode cX3_findGrade 301 = .ok (.bipush 14, 2) := dk_16 14 (dk_at dksX3_findGrade_12 20 rfl rfl)
theorem dX3_findGrade_303 : decode cX3_findGrade 303 = .ok (.iload 9, 2) := dk_21 9 (dk_at dksX3_findGrade_12 22 rfl rfl)
theorem dX3_findGrade_305 : decode cX3_findGrade 305 = .ok (.imul, 1) := dk_104 (dk_at dksX3_findGrade_13 0 rfl rfl)
theorem dX3_findGrade_306 : decode cX3_findGrade 306 = .ok (.iload 6, 2) := dk_21 6 (dk_at dksX3_findGrade_13 1 rfl rfl)
theorem dX3_findGrade_308 : decode cX3_findGrade 308 = .ok (.iadd, 1) := dk_96 (dk_at dksX3_findGrade_13 3 rfl rfl)
theorem dX3_findGrade_309 : decode cX3_findGrade 309 = .ok (.laload, 1) := dk_47 (dk_at dksX3_findGrade_13 4 rfl rfl)
theorem dX3_findGrade_310 : decode cX3_findGrade 310 = .ok (.lstore 10, 2) := dk_55 10 (dk_at dksX3_findGrade_13 5 rfl rfl)
theorem dX3_findGrade_312 : decode cX3_findGrade 312 = .ok (.iconst 0, 1) := dk_3 (dk_at dksX3_findGrade_13 7 rfl rfl)
theorem dX3_findGrade_313 : decode cX3_findGrade 313 = .ok (.istore 12, 2) := dk_54 12 (dk_at dksX3_findGrade_13 8 rfl rfl)
theorem dX3_findGrade_315 : decode cX3_findGrade 315 = .ok (.iload 12, 2) := dk_21 12 (dk_at dksX3_findGrade_13 10 rfl rfl)
theorem dX3_findGrade_317 : decode cX3_findGrade 317 = .ok (.iload_n 3, 1) := dk_29 (dk_at dksX3_findGrade_13 12 rfl rfl)
theorem dX3_findGrade_318 : decode cX3_findGrade 318 = .ok (.if_icmp .ge 58, 3) := dk_162 0 58 (dk_at dksX3_findGrade_13 13 rfl rfl)
theorem dX3_findGrade_321 : decode cX3_findGrade 321 = .ok (.aload_n 0, 1) := dk_42 (dk_at dksX3_findGrade_13 16 rfl rfl)
theorem dX3_findGrade_322 : decode cX3_findGrade 322 = .ok (.getfield 185, 3) := dk_180 0 185 (dk_at dksX3_findGrade_13 17 rfl rfl)
theorem dX3_findGrade_325 : decode cX3_findGrade 325 = .ok (.bipush 14, 2) := dk_16 14 (dk_at dksX3_findGrade_13 20 rfl rfl)
theorem dX3_findGrade_327 : decode cX3_findGrade 327 = .ok (.iload 9, 2) := dk_21 9 (dk_at dksX3_findGrade_13 22 rfl rfl)
theorem dX3_findGrade_329 : decode cX3_findGrade 329 = .ok (.imul, 1) := dk_104 (dk_at dksX3_findGrade_14 0 rfl rfl)
theorem dX3_findGrade_330 : decode cX3_findGrade 330 = .ok (.iload 12, 2) := dk_21 12 (dk_at dksX3_findGrade_14 1 rfl rfl)
theorem dX3_findGrade_332 : decode cX3_findGrade 332 = .ok (.iadd, 1) := dk_96 (dk_at dksX3_findGrade_14 3 rfl rfl)
theorem dX3_findGrade_333 : decode cX3_findGrade 333 = .ok (.lload 7, 2) := dk_22 7 (dk_at dksX3_findGrade_14 4 rfl rfl)
theorem dX3_findGrade_335 : decode cX3_findGrade 335 = .ok (.aload_n 0, 1) := dk_42 (dk_at dksX3_findGrade_14 6 rfl rfl)
theorem dX3_findGrade_336 : decode cX3_findGrade 336 = .ok (.getfield 185, 3) := dk_180 0 185 (dk_at dksX3_findGrade_14 7 rfl rfl)
theorem dX3_findGrade_339 : decode cX3_findGrade 339 = .ok (.bipush 14, 2) := dk_16 14 (dk_at dksX3_findGrade_14 10 rfl rfl)
theorem dX3_findGrade_341 : decode cX3_findGrade 341 = .ok (.iload 9, 2) := dk_21 9 (dk_at dksX3_findGrade_14 12 rfl rfl)
theorem dX3_findGrade_343 : decode cX3_findGrade 343 = .ok (.imul, 1) := dk_104 (dk_at dksX3_findGrade_14 14 rfl rfl)
theorem dX3_findGrade_344 : decode cX3_findGrade 344 = .ok (.iload 12, 2) := dk_21 12 (dk_at dksX3_findGrade_14 15 rfl rfl)
theorem dX3_findGrade_346 : decode cX3_findGrade 346 = .ok (.iadd, 1) := dk_96 (dk_at dksX3_findGrade_14 17 rfl rfl)
theorem dX3_findGrade_347 : decode cX3_findGrade 347 = .ok (.laload, 1) := dk_47 (dk_at dksX3_findGrade_14 18 rfl rfl)
theorem dX3_findGrade_348 : decode cX3_findGrade 348 = .ok (.lmul, 1) := dk_105 (dk_at dksX3_findGrade_14 19 rfl rfl)
theorem dX3_findGrade_349 : decode cX3_findGrade 349 = .ok (.lload 10, 2) := dk_22 10 (dk_at dksX3_findGrade_14 20 rfl rfl)
theorem dX3_findGrade_351 : decode cX3_findGrade 351 = .ok (.aload_n 0, 1) := dk_42 (dk_at dksX3_findGrade_14 22 rfl rfl)
theorem dX3_findGrade_352 : decode cX3_findGrade 352 = .ok (.getfield 185, 3) := dk_180 0 185 (dk_at dksX3_findGrade_15 0 rfl rfl)
theorem dX3_findGrade_355 : decode cX3_findGrade 355 = .ok (.bipush 14, 2) := dk_16 14 (dk_at dksX3_findGrade_15 3 rfl rfl)
theorem dX3_findGrade_357 : decode cX3_findGrade 357 = .ok (.iload 6, 2) := dk_21 6 (dk_at dksX3_findGrade_15 5 rfl rfl)
theorem dX3_findGrade_359 : decode cX3_findGrade 359 = .ok (.imul, 1) := dk_104 (dk_at dksX3_findGrade_15 7 rfl rfl)
theorem dX3_findGrade_360 : decode cX3_findGrade 360 = .ok (.iload 12, 2) := dk_21 12 (dk_at dksX3_findGrade_15 8 rfl rfl)
theorem dX3_findGrade_362 : decode cX3_findGrade 362 = .ok (.iadd, 1) := dk_96 (dk_at dksX3_findGrade_15 10 rfl rfl)
theorem dX3_findGrade_363 : decode cX3_findGrade 363 = .ok (.laload, 1) := dk_47 (dk_at dksX3_findGrade_15 11 rfl rfl)
theorem dX3_findGrade_364 : decode cX3_findGrade 364 = .ok (.lmul, 1) := dk_105 (dk_at dksX3_findGrade_15 12 rfl rfl)
theorem dX3_findGrade_365 : decode cX3_findGrade 365 = .ok (.lsub, 1) := dk_101 (dk_at dksX3_findGrade_15 13 rfl rfl)
theorem dX3_findGrade_366 : decode cX3_findGrade 366 = .ok (.lload 4, 2) := dk_22 4 (dk_at dksX3_findGrade_15 14 rfl rfl)
theorem dX3_findGrade_368 : decode cX3_findGrade 368 = .ok (.ldiv, 1) := dk_109 (dk_at dksX3_findGrade_15 16 rfl rfl)
theorem dX3_findGrade_369 : decode cX3_findGrade 369 = .ok (.lastore, 1) := dk_80 (dk_at dksX3_findGrade_15 17 rfl rfl)
theorem dX3_findGrade_370 : decode cX3_findGrade 370 = .ok (.iinc 12 1, 3) := dk_132 12 1 (dk_at dksX3_findGrade_15 18 rfl rfl)
theorem dX3_findGrade_373 : decode cX3_findGrade 373 = .ok (.goto (-58), 3) := dk_167 255 198 (dk_at dksX3_findGrade_15 21 rfl rfl)
theorem dX3_findGrade_376 : decode cX3_findGrade 376 = .ok (.aload_n 0, 1) := dk_42 (dk_at dksX3_findGrade_16 0 rfl rfl)
theorem dX3_findGrade_377 : decode cX3_findGrade 377 = .ok (.getfield 189, 3) := dk_180 0 189 (dk_at dksX3_findGrade_16 1 rfl rfl)
theorem dX3_findGrade_380 : decode cX3_findGrade 380 = .ok (.iload 9, 2) := dk_21 9 (dk_at dksX3_findGrade_16 4 rfl rfl)
theorem dX3_findGrade_382 : decode cX3_findGrade 382 = .ok (.lload 7, 2) := dk_22 7 (dk_at dksX3_findGrade_16 6 rfl rfl)
theorem dX3_findGrade_384 : decode cX3_findGrade 384 = .ok (.aload_n 0, 1) := dk_42 (dk_at dksX3_findGrade_16 8 rfl rfl)
theorem dX3_findGrade_385 : decode cX3_findGrade 385 = .ok (.getfield 189, 3) := dk_180 0 189 (dk_at dksX3_findGrade_16 9 rfl rfl)
theorem dX3_findGrade_388 : decode cX3_findGrade 388 = .ok (.iload 9, 2) := dk_21 9 (dk_at dksX3_findGrade_16 12 rfl rfl)
theorem dX3_findGrade_390 : decode cX3_findGrade 390 = .ok (.laload, 1) := dk_47 (dk_at dksX3_findGrade_16 14 rfl rfl)
theorem dX3_findGrade_391 : decode cX3_findGrade 391 = .ok (.lmul, 1) := dk_105 (dk_at dksX3_findGrade_16 15 rfl rfl)
theorem dX3_findGrade_392 : decode cX3_findGrade 392 = .ok (.lload 10, 2) := dk_22 10 (dk_at dksX3_findGrade_16 16 rfl rfl)
theorem dX3_findGrade_394 : decode cX3_findGrade 394 = .ok (.aload_n 0, 1) := dk_42 (dk_at dksX3_findGrade_16 18 rfl rfl)
theorem dX3_findGrade_395 : decode cX3_findGrade 395 = .ok (.getfield 189, 3) := dk_180 0 189 (dk_at dksX3_findGrade_16 19 rfl rfl)
theorem dX3_findGrade_398 : decode cX3_findGrade 398 = .ok (.iload 6, 2) := dk_21 6 (dk_at dksX3_findGrade_16 22 rfl rfl)
theorem dX3_findGrade_400 : decode cX3_findGrade 400 = .ok (.laload, 1) := dk_47 (dk_at dksX3_findGrade_17 0 rfl rfl)
theorem dX3_findGrade_401 : decode cX3_findGrade 401 = .ok (.lmul, 1) := dk_105 (dk_at dksX3_findGrade_17 1 rfl rfl)
theorem dX3_findGrade_402 : decode cX3_findGrade 402 = .ok (.lsub, 1) := dk_101 (dk_at dksX3_findGrade_17 2 rfl rfl)
theorem dX3_findGrade_403 : decode cX3_findGrade 403 = .ok (.lload 4, 2) := dk_22 4 (dk_at dksX3_findGrade_17 3 rfl rfl)
theorem dX3_findGrade_405 : decode cX3_findGrade 405 = .ok (.ldiv, 1) := dk_109 (dk_at dksX3_findGrade_17 5 rfl rfl)
theorem dX3_findGrade_406 : decode cX3_findGrade 406 = .ok (.lastore, 1) := dk_80 (dk_at dksX3_findGrade_17 6 rfl rfl)
theorem dX3_findGrade_407 : decode cX3_findGrade 407 = .ok (.iinc 9 1, 3) := dk_132 9 1 (dk_at dksX3_findGrade_17 7 rfl rfl)
theorem dX3_findGrade_410 : decode cX3_findGrade 410 = .ok (.goto (-126), 3) := dk_167 255 130 (dk_at dksX3_findGrade_17 10 rfl rfl)
theorem dX3_findGrade_413 : decode cX3_findGrade 413 = .ok (.lload 7, 2) := dk_22 7 (dk_at dksX3_findGrade_17 13 rfl rfl)
theorem dX3_findGrade_415 : decode cX3_findGrade 415 = .ok (.lstore 4, 2) := dk_55 4 (dk_at dksX3_findGrade_17 15 rfl rfl)
theorem dX3_findGrade_417 : decode cX3_findGrade 417 = .ok (.iinc 6 1, 3) := dk_132 6 1 (dk_at dksX3_findGrade_17 17 rfl rfl)
theorem dX3_findGrade_420 : decode cX3_findGrade 420 = .ok (.goto (-157), 3) := dk_167 255 99 (dk_at dksX3_findGrade_17 20 rfl rfl)
theorem dX3_findGrade_423 : decode cX3_findGrade 423 = .ok (.aload_n 0, 1) := dk_42 (dk_at dksX3_findGrade_17 23 rfl rfl)
theorem dX3_findGrade_424 : decode cX3_findGrade 424 = .ok (.aload_n 0, 1) := dk_42 (dk_at dksX3_findGrade_18 0 rfl rfl)
theorem dX3_findGrade_425 : decode cX3_findGrade 425 = .ok (.getfield 189, 3) := dk_180 0 189 (dk_at dksX3_findGrade_18 1 rfl rfl)
theorem dX3_findGrade_428 : decode cX3_findGrade 428 = .ok (.aload_n 0, 1) := dk_42 (dk_at dksX3_findGrade_18 4 rfl rfl)
theorem dX3_findGrade_429 : decode cX3_findGrade 429 = .ok (.getfield 192, 3) := dk_180 0 192 (dk_at dksX3_findGrade_18 5 rfl rfl)
theorem dX3_findGrade_432 : decode cX3_findGrade 432 = .ok (.iload_n 1, 1) := dk_27 (dk_at dksX3_findGrade_18 8 rfl rfl)
theorem dX3_findGrade_433 : decode cX3_findGrade 433 = .ok (.iaload, 1) := dk_46 (dk_at dksX3_findGrade_18 9 rfl rfl)
theorem dX3_findGrade_434 : decode cX3_findGrade 434 = .ok (.laload, 1) := dk_47 (dk_at dksX3_findGrade_18 10 rfl rfl)
theorem dX3_findGrade_435 : decode cX3_findGrade 435 = .ok (.lload 4, 2) := dk_22 4 (dk_at dksX3_findGrade_18 11 rfl rfl)
theorem dX3_findGrade_437 : decode cX3_findGrade 437 = .ok (.invokevirtual 500, 3) := dk_182 1 244 (dk_at dksX3_findGrade_18 13 rfl rfl)
theorem dX3_findGrade_440 : decode cX3_findGrade 440 = .ok (.return_, 1) := dk_177 (dk_at dksX3_findGrade_18 16 rfl rfl)
abbrev cX3_rootOf : ByteArray := prog_26_method_95_code
def yX3_rootOf : MethodName := ⟨RX3, "rootOf", "(I)I"⟩
def dkwX3_rootOf_0 : List UInt8 := [16, 6, 61, 42, 180, 0, 182, 28, 46, 27, 159, 0, 9, 132, 2, 1, 167, 255, 243, 28, 172]
abbrev dktX3_rootOf_0 : List UInt8 := dkwX3_rootOf_0 ++ []
theorem dksX3_rootOf_0 : cX3_rootOf.data.toList.drop 0 = dktX3_rootOf_0 := by decide +kernel
theorem dX3_rootOf_0 : decode cX3_rootOf 0 = .ok (.bipush 6, 2) := dk_16 6 (dk_at dksX3_rootOf_0 0 rfl rfl)
theorem dX3_rootOf_2 : decode cX3_rootOf 2 = .ok (.istore_n 2, 1) := dk_61 (dk_at dksX3_rootOf_0 2 rfl rfl)
theorem dX3_rootOf_3 : decode cX3_rootOf 3 = .ok (.aload_n 0, 1) := dk_42 (dk_at dksX3_rootOf_0 3 rfl rfl)
theorem dX3_rootOf_4 : decode cX3_rootOf 4 = .ok (.getfield 182, 3) := dk_180 0 182 (dk_at dksX3_rootOf_0 4 rfl rfl)
theorem dX3_rootOf_7 : decode cX3_rootOf 7 = .ok (.iload_n 2, 1) := dk_28 (dk_at dksX3_rootOf_0 7 rfl rfl)
theorem dX3_rootOf_8 : decode cX3_rootOf 8 = .ok (.iaload, 1) := dk_46 (dk_at dksX3_rootOf_0 8 rfl rfl)
theorem dX3_rootOf_9 : decode cX3_rootOf 9 = .ok (.iload_n 1, 1) := dk_27 (dk_at dksX3_rootOf_0 9 rfl rfl)
theorem dX3_rootOf_10 : decode cX3_rootOf 10 = .ok (.if_icmp .eq 9, 3) := dk_159 0 9 (dk_at dksX3_rootOf_0 10 rfl rfl)
theorem dX3_rootOf_13 : decode cX3_rootOf 13 = .ok (.iinc 2 1, 3) := dk_132 2 1 (dk_at dksX3_rootOf_0 13 rfl rfl)
theorem dX3_rootOf_16 : decode cX3_rootOf 16 = .ok (.goto (-13), 3) := dk_167 255 243 (dk_at dksX3_rootOf_0 16 rfl rfl)
theorem dX3_rootOf_19 : decode cX3_rootOf 19 = .ok (.iload_n 2, 1) := dk_28 (dk_at dksX3_rootOf_0 19 rfl rfl)
theorem dX3_rootOf_20 : decode cX3_rootOf 20 = .ok (.ireturn, 1) := dk_172 (dk_at dksX3_rootOf_0 20 rfl rfl)
abbrev cX3_adds : ByteArray := prog_26_method_96_code
def yX3_adds : MethodName := ⟨RX3, "adds", "(IIJ)V"⟩
def dkwX3_adds_2 : List UInt8 := [97, 80, 177]
abbrev dktX3_adds_2 : List UInt8 := dkwX3_adds_2 ++ []
def dkwX3_adds_1 : List UInt8 := [92, 47, 33, 97, 80, 28, 16, 252, 159, 0, 18, 42, 180, 0, 185, 16, 14, 27, 104, 28, 96, 92, 47, 10]
abbrev dktX3_adds_1 : List UInt8 := dkwX3_adds_1 ++ dktX3_adds_2
def dkwX3_adds_0 : List UInt8 := [27, 16, 252, 159, 0, 47, 42, 180, 0, 185, 16, 15, 27, 104, 92, 47, 10, 97, 80, 42, 180, 0, 189, 27]
abbrev dktX3_adds_0 : List UInt8 := dkwX3_adds_0 ++ dktX3_adds_1
theorem dksX3_adds_0 : cX3_adds.data.toList.drop 0 = dktX3_adds_0 := by decide +kernel
theorem dksX3_adds_1 : cX3_adds.data.toList.drop 24 = dktX3_adds_1 := dk_seg dksX3_adds_0 24 rfl rfl
theorem dksX3_adds_2 : cX3_adds.data.toList.drop 48 = dktX3_adds_2 := dk_seg dksX3_adds_1 24 rfl rfl
theorem dX3_adds_0 : decode cX3_adds 0 = .ok (.iload_n 1, 1) := dk_27 (dk_at dksX3_adds_0 0 rfl rfl)
theorem dX3_adds_1 : decode cX3_adds 1 = .ok (.bipush (-4), 2) := dk_16 252 (dk_at dksX3_adds_0 1 rfl rfl)
theorem dX3_adds_3 : decode cX3_adds 3 = .ok (.if_icmp .eq 47, 3) := dk_159 0 47 (dk_at dksX3_adds_0 3 rfl rfl)
theorem dX3_adds_6 : decode cX3_adds 6 = .ok (.aload_n 0, 1) := dk_42 (dk_at dksX3_adds_0 6 rfl rfl)
theorem dX3_adds_7 : decode cX3_adds 7 = .ok (.getfield 185, 3) := dk_180 0 185 (dk_at dksX3_adds_0 7 rfl rfl)
theorem dX3_adds_10 : decode cX3_adds 10 = .ok (.bipush 15, 2) := dk_16 15 (dk_at dksX3_adds_0 10 rfl rfl)
theorem dX3_adds_12 : decode cX3_adds 12 = .ok (.iload_n 1, 1) := dk_27 (dk_at dksX3_adds_0 12 rfl rfl)
theorem dX3_adds_13 : decode cX3_adds 13 = .ok (.imul, 1) := dk_104 (dk_at dksX3_adds_0 13 rfl rfl)
theorem dX3_adds_14 : decode cX3_adds 14 = .ok (.dup2, 1) := dk_92 (dk_at dksX3_adds_0 14 rfl rfl)
theorem dX3_adds_15 : decode cX3_adds 15 = .ok (.laload, 1) := dk_47 (dk_at dksX3_adds_0 15 rfl rfl)
theorem dX3_adds_16 : decode cX3_adds 16 = .ok (.lconst 1, 1) := dk_10 (dk_at dksX3_adds_0 16 rfl rfl)
theorem dX3_adds_17 : decode cX3_adds 17 = .ok (.ladd, 1) := dk_97 (dk_at dksX3_adds_0 17 rfl rfl)
theorem dX3_adds_18 : decode cX3_adds 18 = .ok (.lastore, 1) := dk_80 (dk_at dksX3_adds_0 18 rfl rfl)
theorem dX3_adds_19 : decode cX3_adds 19 = .ok (.aload_n 0, 1) := dk_42 (dk_at dksX3_adds_0 19 rfl rfl)
theorem dX3_adds_20 : decode cX3_adds 20 = .ok (.getfield 189, 3) := dk_180 0 189 (dk_at dksX3_adds_0 20 rfl rfl)
theorem dX3_adds_23 : decode cX3_adds 23 = .ok (.iload_n 1, 1) := dk_27 (dk_at dksX3_adds_0 23 rfl rfl)
theorem dX3_adds_24 : decode cX3_adds 24 = .ok (.dup2, 1) := dk_92 (dk_at dksX3_adds_1 0 rfl rfl)
theorem dX3_adds_25 : decode cX3_adds 25 = .ok (.laload, 1) := dk_47 (dk_at dksX3_adds_1 1 rfl rfl)
theorem dX3_adds_26 : decode cX3_adds 26 = .ok (.lload_n 3, 1) := dk_33 (dk_at dksX3_adds_1 2 rfl rfl)
theorem dX3_adds_27 : decode cX3_adds 27 = .ok (.ladd, 1) := dk_97 (dk_at dksX3_adds_1 3 rfl rfl)
theorem dX3_adds_28 : decode cX3_adds 28 = .ok (.lastore, 1) := dk_80 (dk_at dksX3_adds_1 4 rfl rfl)
theorem dX3_adds_29 : decode cX3_adds 29 = .ok (.iload_n 2, 1) := dk_28 (dk_at dksX3_adds_1 5 rfl rfl)
theorem dX3_adds_30 : decode cX3_adds 30 = .ok (.bipush (-4), 2) := dk_16 252 (dk_at dksX3_adds_1 6 rfl rfl)
theorem dX3_adds_32 : decode cX3_adds 32 = .ok (.if_icmp .eq 18, 3) := dk_159 0 18 (dk_at dksX3_adds_1 8 rfl rfl)
theorem dX3_adds_35 : decode cX3_adds 35 = .ok (.aload_n 0, 1) := dk_42 (dk_at dksX3_adds_1 11 rfl rfl)
theorem dX3_adds_36 : decode cX3_adds 36 = .ok (.getfield 185, 3) := dk_180 0 185 (dk_at dksX3_adds_1 12 rfl rfl)
theorem dX3_adds_39 : decode cX3_adds 39 = .ok (.bipush 14, 2) := dk_16 14 (dk_at dksX3_adds_1 15 rfl rfl)
theorem dX3_adds_41 : decode cX3_adds 41 = .ok (.iload_n 1, 1) := dk_27 (dk_at dksX3_adds_1 17 rfl rfl)
theorem dX3_adds_42 : decode cX3_adds 42 = .ok (.imul, 1) := dk_104 (dk_at dksX3_adds_1 18 rfl rfl)
theorem dX3_adds_43 : decode cX3_adds 43 = .ok (.iload_n 2, 1) := dk_28 (dk_at dksX3_adds_1 19 rfl rfl)
theorem dX3_adds_44 : decode cX3_adds 44 = .ok (.iadd, 1) := dk_96 (dk_at dksX3_adds_1 20 rfl rfl)
theorem dX3_adds_45 : decode cX3_adds 45 = .ok (.dup2, 1) := dk_92 (dk_at dksX3_adds_1 21 rfl rfl)
theorem dX3_adds_46 : decode cX3_adds 46 = .ok (.laload, 1) := dk_47 (dk_at dksX3_adds_1 22 rfl rfl)
theorem dX3_adds_47 : decode cX3_adds 47 = .ok (.lconst 1, 1) := dk_10 (dk_at dksX3_adds_1 23 rfl rfl)
theorem dX3_adds_48 : decode cX3_adds 48 = .ok (.ladd, 1) := dk_97 (dk_at dksX3_adds_2 0 rfl rfl)
theorem dX3_adds_49 : decode cX3_adds 49 = .ok (.lastore, 1) := dk_80 (dk_at dksX3_adds_2 1 rfl rfl)
theorem dX3_adds_50 : decode cX3_adds 50 = .ok (.return_, 1) := dk_177 (dk_at dksX3_adds_2 2 rfl rfl)
abbrev cX3_lowest : ByteArray := prog_26_method_97_code
def yX3_lowest : MethodName := ⟨RX3, "lowest", "(JJ)V"⟩
def dkwX3_lowest_3 : List UInt8 := [31, 22, 5, 109, 181, 1, 227, 42, 33, 22, 5, 109, 181, 1, 231, 177]
abbrev dktX3_lowest_3 : List UInt8 := dkwX3_lowest_3 ++ []
def dkwX3_lowest_2 : List UInt8 := [22, 9, 55, 7, 167, 255, 234, 33, 9, 148, 156, 0, 9, 22, 5, 117, 167, 0, 5, 22, 5, 55, 5, 42]
abbrev dktX3_lowest_2 : List UInt8 := dkwX3_lowest_2 ++ dktX3_lowest_3
def dkwX3_lowest_1 : List UInt8 := [167, 0, 4, 33, 55, 7, 22, 7, 9, 148, 153, 0, 21, 22, 5, 22, 7, 113, 55, 9, 22, 7, 55, 5]
abbrev dktX3_lowest_1 : List UInt8 := dkwX3_lowest_1 ++ dktX3_lowest_2
def dkwX3_lowest_0 : List UInt8 := [31, 9, 148, 156, 0, 8, 31, 117, 167, 0, 4, 31, 55, 5, 33, 9, 148, 156, 0, 8, 33, 117]
abbrev dktX3_lowest_0 : List UInt8 := dkwX3_lowest_0 ++ dktX3_lowest_1
theorem dksX3_lowest_0 : cX3_lowest.data.toList.drop 0 = dktX3_lowest_0 := by decide +kernel
theorem dksX3_lowest_1 : cX3_lowest.data.toList.drop 22 = dktX3_lowest_1 := dk_seg dksX3_lowest_0 22 rfl rfl
theorem dksX3_lowest_2 : cX3_lowest.data.toList.drop 46 = dktX3_lowest_2 := dk_seg dksX3_lowest_1 24 rfl rfl
theorem dksX3_lowest_3 : cX3_lowest.data.toList.drop 70 = dktX3_lowest_3 := dk_seg dksX3_lowest_2 24 rfl rfl
theorem dX3_lowest_0 : decode cX3_lowest 0 = .ok (.lload_n 1, 1) := dk_31 (dk_at dksX3_lowest_0 0 rfl rfl)
theorem dX3_lowest_1 : decode cX3_lowest 1 = .ok (.lconst 0, 1) := dk_9 (dk_at dksX3_lowest_0 1 rfl rfl)
theorem dX3_lowest_2 : decode cX3_lowest 2 = .ok (.lcmp, 1) := dk_148 (dk_at dksX3_lowest_0 2 rfl rfl)
theorem dX3_lowest_3 : decode cX3_lowest 3 = .ok (.ifCond .ge 8, 3) := dk_156 0 8 (dk_at dksX3_lowest_0 3 rfl rfl)
theorem dX3_lowest_6 : decode cX3_lowest 6 = .ok (.lload_n 1, 1) := dk_31 (dk_at dksX3_lowest_0 6 rfl rfl)
theorem dX3_lowest_7 : decode cX3_lowest 7 = .ok (.lneg, 1) := dk_117 (dk_at dksX3_lowest_0 7 rfl rfl)
theorem dX3_lowest_8 : decode cX3_lowest 8 = .ok (.goto 4, 3) := dk_167 0 4 (dk_at dksX3_lowest_0 8 rfl rfl)
theorem dX3_lowest_11 : decode cX3_lowest 11 = .ok (.lload_n 1, 1) := dk_31 (dk_at dksX3_lowest_0 11 rfl rfl)
theorem dX3_lowest_12 : decode cX3_lowest 12 = .ok (.lstore 5, 2) := dk_55 5 (dk_at dksX3_lowest_0 12 rfl rfl)
theorem dX3_lowest_14 : decode cX3_lowest 14 = .ok (.lload_n 3, 1) := dk_33 (dk_at dksX3_lowest_0 14 rfl rfl)
theorem dX3_lowest_15 : decode cX3_lowest 15 = .ok (.lconst 0, 1) := dk_9 (dk_at dksX3_lowest_0 15 rfl rfl)
theorem dX3_lowest_16 : decode cX3_lowest 16 = .ok (.lcmp, 1) := dk_148 (dk_at dksX3_lowest_0 16 rfl rfl)
theorem dX3_lowest_17 : decode cX3_lowest 17 = .ok (.ifCond .ge 8, 3) := dk_156 0 8 (dk_at dksX3_lowest_0 17 rfl rfl)
theorem dX3_lowest_20 : decode cX3_lowest 20 = .ok (.lload_n 3, 1) := dk_33 (dk_at dksX3_lowest_0 20 rfl rfl)
theorem dX3_lowest_21 : decode cX3_lowest 21 = .ok (.lneg, 1) := dk_117 (dk_at dksX3_lowest_0 21 rfl rfl)
theorem dX3_lowest_22 : decode cX3_lowest 22 = .ok (.goto 4, 3) := dk_167 0 4 (dk_at dksX3_lowest_1 0 rfl rfl)
theorem dX3_lowest_25 : decode cX3_lowest 25 = .ok (.lload_n 3, 1) := dk_33 (dk_at dksX3_lowest_1 3 rfl rfl)
theorem dX3_lowest_26 : decode cX3_lowest 26 = .ok (.lstore 7, 2) := dk_55 7 (dk_at dksX3_lowest_1 4 rfl rfl)
theorem dX3_lowest_28 : decode cX3_lowest 28 = .ok (.lload 7, 2) := dk_22 7 (dk_at dksX3_lowest_1 6 rfl rfl)
theorem dX3_lowest_30 : decode cX3_lowest 30 = .ok (.lconst 0, 1) := dk_9 (dk_at dksX3_lowest_1 8 rfl rfl)
theorem dX3_lowest_31 : decode cX3_lowest 31 = .ok (.lcmp, 1) := dk_148 (dk_at dksX3_lowest_1 9 rfl rfl)
theorem dX3_lowest_32 : decode cX3_lowest 32 = .ok (.ifCond .eq 21, 3) := dk_153 0 21 (dk_at dksX3_lowest_1 10 rfl rfl)
theorem dX3_lowest_35 : decode cX3_lowest 35 = .ok (.lload 5, 2) := dk_22 5 (dk_at dksX3_lowest_1 13 rfl rfl)
theorem dX3_lowest_37 : decode cX3_lowest 37 = .ok (.lload 7, 2) := dk_22 7 (dk_at dksX3_lowest_1 15 rfl rfl)
theorem dX3_lowest_39 : decode cX3_lowest 39 = .ok (.lrem, 1) := dk_113 (dk_at dksX3_lowest_1 17 rfl rfl)
theorem dX3_lowest_40 : decode cX3_lowest 40 = .ok (.lstore 9, 2) := dk_55 9 (dk_at dksX3_lowest_1 18 rfl rfl)
theorem dX3_lowest_42 : decode cX3_lowest 42 = .ok (.lload 7, 2) := dk_22 7 (dk_at dksX3_lowest_1 20 rfl rfl)
theorem dX3_lowest_44 : decode cX3_lowest 44 = .ok (.lstore 5, 2) := dk_55 5 (dk_at dksX3_lowest_1 22 rfl rfl)
theorem dX3_lowest_46 : decode cX3_lowest 46 = .ok (.lload 9, 2) := dk_22 9 (dk_at dksX3_lowest_2 0 rfl rfl)
theorem dX3_lowest_48 : decode cX3_lowest 48 = .ok (.lstore 7, 2) := dk_55 7 (dk_at dksX3_lowest_2 2 rfl rfl)
theorem dX3_lowest_50 : decode cX3_lowest 50 = .ok (.goto (-22), 3) := dk_167 255 234 (dk_at dksX3_lowest_2 4 rfl rfl)
theorem dX3_lowest_53 : decode cX3_lowest 53 = .ok (.lload_n 3, 1) := dk_33 (dk_at dksX3_lowest_2 7 rfl rfl)
theorem dX3_lowest_54 : decode cX3_lowest 54 = .ok (.lconst 0, 1) := dk_9 (dk_at dksX3_lowest_2 8 rfl rfl)
theorem dX3_lowest_55 : decode cX3_lowest 55 = .ok (.lcmp, 1) := dk_148 (dk_at dksX3_lowest_2 9 rfl rfl)
theorem dX3_lowest_56 : decode cX3_lowest 56 = .ok (.ifCond .ge 9, 3) := dk_156 0 9 (dk_at dksX3_lowest_2 10 rfl rfl)
theorem dX3_lowest_59 : decode cX3_lowest 59 = .ok (.lload 5, 2) := dk_22 5 (dk_at dksX3_lowest_2 13 rfl rfl)
theorem dX3_lowest_61 : decode cX3_lowest 61 = .ok (.lneg, 1) := dk_117 (dk_at dksX3_lowest_2 15 rfl rfl)
theorem dX3_lowest_62 : decode cX3_lowest 62 = .ok (.goto 5, 3) := dk_167 0 5 (dk_at dksX3_lowest_2 16 rfl rfl)
theorem dX3_lowest_65 : decode cX3_lowest 65 = .ok (.lload 5, 2) := dk_22 5 (dk_at dksX3_lowest_2 19 rfl rfl)
theorem dX3_lowest_67 : decode cX3_lowest 67 = .ok (.lstore 5, 2) := dk_55 5 (dk_at dksX3_lowest_2 21 rfl rfl)
theorem dX3_lowest_69 : decode cX3_lowest 69 = .ok (.aload_n 0, 1) := dk_42 (dk_at dksX3_lowest_2 23 rfl rfl)
theorem dX3_lowest_70 : decode cX3_lowest 70 = .ok (.lload_n 1, 1) := dk_31 (dk_at dksX3_lowest_3 0 rfl rfl)
theorem dX3_lowest_71 : decode cX3_lowest 71 = .ok (.lload 5, 2) := dk_22 5 (dk_at dksX3_lowest_3 1 rfl rfl)
theorem dX3_lowest_73 : decode cX3_lowest 73 = .ok (.ldiv, 1) := dk_109 (dk_at dksX3_lowest_3 3 rfl rfl)
theorem dX3_lowest_74 : decode cX3_lowest 74 = .ok (.putfield 483, 3) := dk_181 1 227 (dk_at dksX3_lowest_3 4 rfl rfl)
theorem dX3_lowest_77 : decode cX3_lowest 77 = .ok (.aload_n 0, 1) := dk_42 (dk_at dksX3_lowest_3 7 rfl rfl)
theorem dX3_lowest_78 : decode cX3_lowest 78 = .ok (.lload_n 3, 1) := dk_33 (dk_at dksX3_lowest_3 8 rfl rfl)
theorem dX3_lowest_79 : decode cX3_lowest 79 = .ok (.lload 5, 2) := dk_22 5 (dk_at dksX3_lowest_3 9 rfl rfl)
theorem dX3_lowest_81 : decode cX3_lowest 81 = .ok (.ldiv, 1) := dk_109 (dk_at dksX3_lowest_3 11 rfl rfl)
theorem dX3_lowest_82 : decode cX3_lowest 82 = .ok (.putfield 487, 3) := dk_181 1 231 (dk_at dksX3_lowest_3 12 rfl rfl)
theorem dX3_lowest_85 : decode cX3_lowest 85 = .ok (.return_, 1) := dk_177 (dk_at dksX3_lowest_3 15 rfl rfl)
abbrev cX3_over : ByteArray := prog_26_method_100_code
def yX3_over : MethodName := ⟨RX3, "over", "(II)J"⟩
def dkwX3_over_5 : List UInt8 := [180, 1, 231, 173]
abbrev dktX3_over_5 : List UInt8 := dkwX3_over_5 ++ []
def dkwX3_over_4 : List UInt8 := [101, 22, 5, 42, 180, 1, 231, 105, 182, 1, 244, 28, 154, 0, 10, 42, 180, 1, 227, 167, 0, 7, 42]
abbrev dktX3_over_4 : List UInt8 := dkwX3_over_4 ++ dktX3_over_5
def dkwX3_over_3 : List UInt8 := [46, 133, 22, 5, 105, 42, 180, 1, 231, 105, 33, 42, 180, 1, 231, 105, 101, 42, 180, 1, 227, 22, 5, 105]
abbrev dktX3_over_3 : List UInt8 := dkwX3_over_3 ++ dktX3_over_4
def dkwX3_over_2 : List UInt8 := [180, 1, 231, 55, 5, 42, 16, 6, 42, 180, 0, 176, 27, 46, 96, 182, 1, 252, 42, 42, 180, 0, 179, 27]
abbrev dktX3_over_2 : List UInt8 := dkwX3_over_2 ++ dktX3_over_3
def dkwX3_over_1 : List UInt8 := [154, 0, 7, 20, 1, 248, 173, 42, 42, 180, 0, 173, 27, 46, 182, 1, 252, 42, 180, 1, 227, 66, 42]
abbrev dktX3_over_1 : List UInt8 := dkwX3_over_1 ++ dktX3_over_2
def dkwX3_over_0 : List UInt8 := [27, 133, 9, 42, 180, 1, 224, 4, 100, 133, 184, 0, 214, 153, 0, 13, 28, 133, 9, 10, 184, 0, 214]
abbrev dktX3_over_0 : List UInt8 := dkwX3_over_0 ++ dktX3_over_1
theorem dksX3_over_0 : cX3_over.data.toList.drop 0 = dktX3_over_0 := by decide +kernel
theorem dksX3_over_1 : cX3_over.data.toList.drop 23 = dktX3_over_1 := dk_seg dksX3_over_0 23 rfl rfl
theorem dksX3_over_2 : cX3_over.data.toList.drop 46 = dktX3_over_2 := dk_seg dksX3_over_1 23 rfl rfl
theorem dksX3_over_3 : cX3_over.data.toList.drop 70 = dktX3_over_3 := dk_seg dksX3_over_2 24 rfl rfl
theorem dksX3_over_4 : cX3_over.data.toList.drop 94 = dktX3_over_4 := dk_seg dksX3_over_3 24 rfl rfl
theorem dksX3_over_5 : cX3_over.data.toList.drop 117 = dktX3_over_5 := dk_seg dksX3_over_4 23 rfl rfl
theorem dX3_over_0 : decode cX3_over 0 = .ok (.iload_n 1, 1) := dk_27 (dk_at dksX3_over_0 0 rfl rfl)
theorem dX3_over_1 : decode cX3_over 1 = .ok (.i2l, 1) := dk_133 (dk_at dksX3_over_0 1 rfl rfl)
theorem dX3_over_2 : decode cX3_over 2 = .ok (.lconst 0, 1) := dk_9 (dk_at dksX3_over_0 2 rfl rfl)
theorem dX3_over_3 : decode cX3_over 3 = .ok (.aload_n 0, 1) := dk_42 (dk_at dksX3_over_0 3 rfl rfl)
theorem dX3_over_4 : decode cX3_over 4 = .ok (.getfield 480, 3) := dk_180 1 224 (dk_at dksX3_over_0 4 rfl rfl)
theorem dX3_over_7 : decode cX3_over 7 = .ok (.iconst 1, 1) := dk_4 (dk_at dksX3_over_0 7 rfl rfl)
theorem dX3_over_8 : decode cX3_over 8 = .ok (.isub, 1) := dk_100 (dk_at dksX3_over_0 8 rfl rfl)
theorem dX3_over_9 : decode cX3_over 9 = .ok (.i2l, 1) := dk_133 (dk_at dksX3_over_0 9 rfl rfl)
theorem dX3_over_10 : decode cX3_over 10 = .ok (.invokestatic 214, 3) := dk_184 0 214 (dk_at dksX3_over_0 10 rfl rfl)
theorem dX3_over_13 : decode cX3_over 13 = .ok (.ifCond .eq 13, 3) := dk_153 0 13 (dk_at dksX3_over_0 13 rfl rfl)
theorem dX3_over_16 : decode cX3_over 16 = .ok (.iload_n 2, 1) := dk_28 (dk_at dksX3_over_0 16 rfl rfl)
theorem dX3_over_17 : decode cX3_over 17 = .ok (.i2l, 1) := dk_133 (dk_at dksX3_over_0 17 rfl rfl)
theorem dX3_over_18 : decode cX3_over 18 = .ok (.lconst 0, 1) := dk_9 (dk_at dksX3_over_0 18 rfl rfl)
theorem dX3_over_19 : decode cX3_over 19 = .ok (.lconst 1, 1) := dk_10 (dk_at dksX3_over_0 19 rfl rfl)
theorem dX3_over_20 : decode cX3_over 20 = .ok (.invokestatic 214, 3) := dk_184 0 214 (dk_at dksX3_over_0 20 rfl rfl)
theorem dX3_over_23 : decode cX3_over 23 = .ok (.ifCond .ne 7, 3) := dk_154 0 7 (dk_at dksX3_over_1 0 rfl rfl)
theorem dX3_over_26 : decode cX3_over 26 = .ok (.ldc2_w 504, 3) := dk_20 1 248 (dk_at dksX3_over_1 3 rfl rfl)
theorem dX3_over_29 : decode cX3_over 29 = .ok (.lreturn, 1) := dk_173 (dk_at dksX3_over_1 6 rfl rfl)
theorem dX3_over_30 : decode cX3_over 30 = .ok (.aload_n 0, 1) := dk_42 (dk_at dksX3_over_1 7 rfl rfl)
theorem dX3_over_31 : decode cX3_over 31 = .ok (.aload_n 0, 1) := dk_42 (dk_at dksX3_over_1 8 rfl rfl)
theorem dX3_over_32 : decode cX3_over 32 = .ok (.getfield 173, 3) := dk_180 0 173 (dk_at dksX3_over_1 9 rfl rfl)
theorem dX3_over_35 : decode cX3_over 35 = .ok (.iload_n 1, 1) := dk_27 (dk_at dksX3_over_1 12 rfl rfl)
theorem dX3_over_36 : decode cX3_over 36 = .ok (.iaload, 1) := dk_46 (dk_at dksX3_over_1 13 rfl rfl)
theorem dX3_over_37 : decode cX3_over 37 = .ok (.invokevirtual 508, 3) := dk_182 1 252 (dk_at dksX3_over_1 14 rfl rfl)
theorem dX3_over_40 : decode cX3_over 40 = .ok (.aload_n 0, 1) := dk_42 (dk_at dksX3_over_1 17 rfl rfl)
theorem dX3_over_41 : decode cX3_over 41 = .ok (.getfield 483, 3) := dk_180 1 227 (dk_at dksX3_over_1 18 rfl rfl)
theorem dX3_over_44 : decode cX3_over 44 = .ok (.lstore_n 3, 1) := dk_66 (dk_at dksX3_over_1 21 rfl rfl)
theorem dX3_over_45 : decode cX3_over 45 = .ok (.aload_n 0, 1) := dk_42 (dk_at dksX3_over_1 22 rfl rfl)
theorem dX3_over_46 : decode cX3_over 46 = .ok (.getfield 487, 3) := dk_180 1 231 (dk_at dksX3_over_2 0 rfl rfl)
theorem dX3_over_49 : decode cX3_over 49 = .ok (.lstore 5, 2) := dk_55 5 (dk_at dksX3_over_2 3 rfl rfl)
theorem dX3_over_51 : decode cX3_over 51 = .ok (.aload_n 0, 1) := dk_42 (dk_at dksX3_over_2 5 rfl rfl)
theorem dX3_over_52 : decode cX3_over 52 = .ok (.bipush 6, 2) := dk_16 6 (dk_at dksX3_over_2 6 rfl rfl)
theorem dX3_over_54 : decode cX3_over 54 = .ok (.aload_n 0, 1) := dk_42 (dk_at dksX3_over_2 8 rfl rfl)
theorem dX3_over_55 : decode cX3_over 55 = .ok (.getfield 176, 3) := dk_180 0 176 (dk_at dksX3_over_2 9 rfl rfl)
theorem dX3_over_58 : decode cX3_over 58 = .ok (.iload_n 1, 1) := dk_27 (dk_at dksX3_over_2 12 rfl rfl)
theorem dX3_over_59 : decode cX3_over 59 = .ok (.iaload, 1) := dk_46 (dk_at dksX3_over_2 13 rfl rfl)
theorem dX3_over_60 : decode cX3_over 60 = .ok (.iadd, 1) := dk_96 (dk_at dksX3_over_2 14 rfl rfl)
theorem dX3_over_61 : decode cX3_over 61 = .ok (.invokevirtual 508, 3) := dk_182 1 252 (dk_at dksX3_over_2 15 rfl rfl)
theorem dX3_over_64 : decode cX3_over 64 = .ok (.aload_n 0, 1) := dk_42 (dk_at dksX3_over_2 18 rfl rfl)
theorem dX3_over_65 : decode cX3_over 65 = .ok (.aload_n 0, 1) := dk_42 (dk_at dksX3_over_2 19 rfl rfl)
theorem dX3_over_66 : decode cX3_over 66 = .ok (.getfield 179, 3) := dk_180 0 179 (dk_at dksX3_over_2 20 rfl rfl)
theorem dX3_over_69 : decode cX3_over 69 = .ok (.iload_n 1, 1) := dk_27 (dk_at dksX3_over_2 23 rfl rfl)
theorem dX3_over_70 : decode cX3_over 70 = .ok (.iaload, 1) := dk_46 (dk_at dksX3_over_3 0 rfl rfl)
theorem dX3_over_71 : decode cX3_over 71 = .ok (.i2l, 1) := dk_133 (dk_at dksX3_over_3 1 rfl rfl)
theorem dX3_over_72 : decode cX3_over 72 = .ok (.lload 5, 2) := dk_22 5 (dk_at dksX3_over_3 2 rfl rfl)
theorem dX3_over_74 : decode cX3_over 74 = .ok (.lmul, 1) := dk_105 (dk_at dksX3_over_3 4 rfl rfl)
theorem dX3_over_75 : decode cX3_over 75 = .ok (.aload_n 0, 1) := dk_42 (dk_at dksX3_over_3 5 rfl rfl)
theorem dX3_over_76 : decode cX3_over 76 = .ok (.getfield 487, 3) := dk_180 1 231 (dk_at dksX3_over_3 6 rfl rfl)
theorem dX3_over_79 : decode cX3_over 79 = .ok (.lmul, 1) := dk_105 (dk_at dksX3_over_3 9 rfl rfl)
theorem dX3_over_80 : decode cX3_over 80 = .ok (.lload_n 3, 1) := dk_33 (dk_at dksX3_over_3 10 rfl rfl)
theorem dX3_over_81 : decode cX3_over 81 = .ok (.aload_n 0, 1) := dk_42 (dk_at dksX3_over_3 11 rfl rfl)
theorem dX3_over_82 : decode cX3_over 82 = .ok (.getfield 487, 3) := dk_180 1 231 (dk_at dksX3_over_3 12 rfl rfl)
theorem dX3_over_85 : decode cX3_over 85 = .ok (.lmul, 1) := dk_105 (dk_at dksX3_over_3 15 rfl rfl)
theorem dX3_over_86 : decode cX3_over 86 = .ok (.lsub, 1) := dk_101 (dk_at dksX3_over_3 16 rfl rfl)
theorem dX3_over_87 : decode cX3_over 87 = .ok (.aload_n 0, 1) := dk_42 (dk_at dksX3_over_3 17 rfl rfl)
theorem dX3_over_88 : decode cX3_over 88 = .ok (.getfield 483, 3) := dk_180 1 227 (dk_at dksX3_over_3 18 rfl rfl)
theorem dX3_over_91 : decode cX3_over 91 = .ok (.lload 5, 2) := dk_22 5 (dk_at dksX3_over_3 21 rfl rfl)
theorem dX3_over_93 : decode cX3_over 93 = .ok (.lmul, 1) := dk_105 (dk_at dksX3_over_3 23 rfl rfl)
theorem dX3_over_94 : decode cX3_over 94 = .ok (.lsub, 1) := dk_101 (dk_at dksX3_over_4 0 rfl rfl)
theorem dX3_over_95 : decode cX3_over 95 = .ok (.lload 5, 2) := dk_22 5 (dk_at dksX3_over_4 1 rfl rfl)
theorem dX3_over_97 : decode cX3_over 97 = .ok (.aload_n 0, 1) := dk_42 (dk_at dksX3_over_4 3 rfl rfl)
theorem dX3_over_98 : decode cX3_over 98 = .ok (.getfield 487, 3) := dk_180 1 231 (dk_at dksX3_over_4 4 rfl rfl)
theorem dX3_over_101 : decode cX3_over 101 = .ok (.lmul, 1) := dk_105 (dk_at dksX3_over_4 7 rfl rfl)
theorem dX3_over_102 : decode cX3_over 102 = .ok (.invokevirtual 500, 3) := dk_182 1 244 (dk_at dksX3_over_4 8 rfl rfl)
theorem dX3_over_105 : decode cX3_over 105 = .ok (.iload_n 2, 1) := dk_28 (dk_at dksX3_over_4 11 rfl rfl)
theorem dX3_over_106 : decode cX3_over 106 = .ok (.ifCond .ne 10, 3) := dk_154 0 10 (dk_at dksX3_over_4 12 rfl rfl)
theorem dX3_over_109 : decode cX3_over 109 = .ok (.aload_n 0, 1) := dk_42 (dk_at dksX3_over_4 15 rfl rfl)
theorem dX3_over_110 : decode cX3_over 110 = .ok (.getfield 483, 3) := dk_180 1 227 (dk_at dksX3_over_4 16 rfl rfl)
theorem dX3_over_113 : decode cX3_over 113 = .ok (.goto 7, 3) := dk_167 0 7 (dk_at dksX3_over_4 19 rfl rfl)
theorem dX3_over_116 : decode cX3_over 116 = .ok (.aload_n 0, 1) := dk_42 (dk_at dksX3_over_4 22 rfl rfl)
theorem dX3_over_117 : decode cX3_over 117 = .ok (.getfield 487, 3) := dk_180 1 231 (dk_at dksX3_over_5 0 rfl rfl)
theorem dX3_over_120 : decode cX3_over 120 = .ok (.lreturn, 1) := dk_173 (dk_at dksX3_over_5 3 rfl rfl)
abbrev cX3_pieces : ByteArray := prog_26_method_101_code
def yX3_pieces : MethodName := ⟨RX3, "pieces", "()I"⟩
def dkwX3_pieces_1 : List UInt8 := [160, 0, 7, 4, 167, 0, 4, 3, 96, 60, 132, 2, 1, 167, 255, 229, 27, 172]
abbrev dktX3_pieces_1 : List UInt8 := dkwX3_pieces_1 ++ []
def dkwX3_pieces_0 : List UInt8 := [42, 182, 1, 234, 3, 60, 3, 61, 28, 16, 14, 162, 0, 27, 27, 42, 180, 0, 182, 28, 46, 28]
abbrev dktX3_pieces_0 : List UInt8 := dkwX3_pieces_0 ++ dktX3_pieces_1
theorem dksX3_pieces_0 : cX3_pieces.data.toList.drop 0 = dktX3_pieces_0 := by decide +kernel
theorem dksX3_pieces_1 : cX3_pieces.data.toList.drop 22 = dktX3_pieces_1 := dk_seg dksX3_pieces_0 22 rfl rfl
theorem dX3_pieces_0 : decode cX3_pieces 0 = .ok (.aload_n 0, 1) := dk_42 (dk_at dksX3_pieces_0 0 rfl rfl)
theorem dX3_pieces_1 : decode cX3_pieces 1 = .ok (.invokevirtual 490, 3) := dk_182 1 234 (dk_at dksX3_pieces_0 1 rfl rfl)
theorem dX3_pieces_4 : decode cX3_pieces 4 = .ok (.iconst 0, 1) := dk_3 (dk_at dksX3_pieces_0 4 rfl rfl)
theorem dX3_pieces_5 : decode cX3_pieces 5 = .ok (.istore_n 1, 1) := dk_60 (dk_at dksX3_pieces_0 5 rfl rfl)
theorem dX3_pieces_6 : decode cX3_pieces 6 = .ok (.iconst 0, 1) := dk_3 (dk_at dksX3_pieces_0 6 rfl rfl)
theorem dX3_pieces_7 : decode cX3_pieces 7 = .ok (.istore_n 2, 1) := dk_61 (dk_at dksX3_pieces_0 7 rfl rfl)
theorem dX3_pieces_8 : decode cX3_pieces 8 = .ok (.iload_n 2, 1) := dk_28 (dk_at dksX3_pieces_0 8 rfl rfl)
theorem dX3_pieces_9 : decode cX3_pieces 9 = .ok (.bipush 14, 2) := dk_16 14 (dk_at dksX3_pieces_0 9 rfl rfl)
theorem dX3_pieces_11 : decode cX3_pieces 11 = .ok (.if_icmp .ge 27, 3) := dk_162 0 27 (dk_at dksX3_pieces_0 11 rfl rfl)
theorem dX3_pieces_14 : decode cX3_pieces 14 = .ok (.iload_n 1, 1) := dk_27 (dk_at dksX3_pieces_0 14 rfl rfl)
theorem dX3_pieces_15 : decode cX3_pieces 15 = .ok (.aload_n 0, 1) := dk_42 (dk_at dksX3_pieces_0 15 rfl rfl)
theorem dX3_pieces_16 : decode cX3_pieces 16 = .ok (.getfield 182, 3) := dk_180 0 182 (dk_at dksX3_pieces_0 16 rfl rfl)
theorem dX3_pieces_19 : decode cX3_pieces 19 = .ok (.iload_n 2, 1) := dk_28 (dk_at dksX3_pieces_0 19 rfl rfl)
theorem dX3_pieces_20 : decode cX3_pieces 20 = .ok (.iaload, 1) := dk_46 (dk_at dksX3_pieces_0 20 rfl rfl)
theorem dX3_pieces_21 : decode cX3_pieces 21 = .ok (.iload_n 2, 1) := dk_28 (dk_at dksX3_pieces_0 21 rfl rfl)
theorem dX3_pieces_22 : decode cX3_pieces 22 = .ok (.if_icmp .ne 7, 3) := dk_160 0 7 (dk_at dksX3_pieces_1 0 rfl rfl)
theorem dX3_pieces_25 : decode cX3_pieces 25 = .ok (.iconst 1, 1) := dk_4 (dk_at dksX3_pieces_1 3 rfl rfl)
theorem dX3_pieces_26 : decode cX3_pieces 26 = .ok (.goto 4, 3) := dk_167 0 4 (dk_at dksX3_pieces_1 4 rfl rfl)
theorem dX3_pieces_29 : decode cX3_pieces 29 = .ok (.iconst 0, 1) := dk_3 (dk_at dksX3_pieces_1 7 rfl rfl)
theorem dX3_pieces_30 : decode cX3_pieces 30 = .ok (.iadd, 1) := dk_96 (dk_at dksX3_pieces_1 8 rfl rfl)
theorem dX3_pieces_31 : decode cX3_pieces 31 = .ok (.istore_n 1, 1) := dk_60 (dk_at dksX3_pieces_1 9 rfl rfl)
theorem dX3_pieces_32 : decode cX3_pieces 32 = .ok (.iinc 2 1, 3) := dk_132 2 1 (dk_at dksX3_pieces_1 10 rfl rfl)
theorem dX3_pieces_35 : decode cX3_pieces 35 = .ok (.goto (-27), 3) := dk_167 255 229 (dk_at dksX3_pieces_1 13 rfl rfl)
theorem dX3_pieces_38 : decode cX3_pieces 38 = .ok (.iload_n 1, 1) := dk_27 (dk_at dksX3_pieces_1 16 rfl rfl)
theorem dX3_pieces_39 : decode cX3_pieces 39 = .ok (.ireturn, 1) := dk_172 (dk_at dksX3_pieces_1 17 rfl rfl)
abbrev cX3_give : ByteArray := prog_26_method_102_code
def yX3_give : MethodName := ⟨RX3, "give", "(I)I"⟩
def dkwX3_give_1 : List UInt8 := [164, 0, 6, 16, 253, 172, 42, 89, 180, 1, 173, 27, 96, 181, 1, 173, 42, 180, 1, 173, 172]
abbrev dktX3_give_1 : List UInt8 := dkwX3_give_1 ++ []
def dkwX3_give_0 : List UInt8 := [27, 133, 10, 20, 1, 255, 184, 0, 214, 154, 0, 5, 2, 172, 42, 180, 1, 173, 27, 96, 19, 2, 1]
abbrev dktX3_give_0 : List UInt8 := dkwX3_give_0 ++ dktX3_give_1
theorem dksX3_give_0 : cX3_give.data.toList.drop 0 = dktX3_give_0 := by decide +kernel
theorem dksX3_give_1 : cX3_give.data.toList.drop 23 = dktX3_give_1 := dk_seg dksX3_give_0 23 rfl rfl
theorem dX3_give_0 : decode cX3_give 0 = .ok (.iload_n 1, 1) := dk_27 (dk_at dksX3_give_0 0 rfl rfl)
theorem dX3_give_1 : decode cX3_give 1 = .ok (.i2l, 1) := dk_133 (dk_at dksX3_give_0 1 rfl rfl)
theorem dX3_give_2 : decode cX3_give 2 = .ok (.lconst 1, 1) := dk_10 (dk_at dksX3_give_0 2 rfl rfl)
theorem dX3_give_3 : decode cX3_give 3 = .ok (.ldc2_w 511, 3) := dk_20 1 255 (dk_at dksX3_give_0 3 rfl rfl)
theorem dX3_give_6 : decode cX3_give 6 = .ok (.invokestatic 214, 3) := dk_184 0 214 (dk_at dksX3_give_0 6 rfl rfl)
theorem dX3_give_9 : decode cX3_give 9 = .ok (.ifCond .ne 5, 3) := dk_154 0 5 (dk_at dksX3_give_0 9 rfl rfl)
theorem dX3_give_12 : decode cX3_give 12 = .ok (.iconst (-1), 1) := dk_2 (dk_at dksX3_give_0 12 rfl rfl)
theorem dX3_give_13 : decode cX3_give 13 = .ok (.ireturn, 1) := dk_172 (dk_at dksX3_give_0 13 rfl rfl)
theorem dX3_give_14 : decode cX3_give 14 = .ok (.aload_n 0, 1) := dk_42 (dk_at dksX3_give_0 14 rfl rfl)
theorem dX3_give_15 : decode cX3_give 15 = .ok (.getfield 429, 3) := dk_180 1 173 (dk_at dksX3_give_0 15 rfl rfl)
theorem dX3_give_18 : decode cX3_give 18 = .ok (.iload_n 1, 1) := dk_27 (dk_at dksX3_give_0 18 rfl rfl)
theorem dX3_give_19 : decode cX3_give 19 = .ok (.iadd, 1) := dk_96 (dk_at dksX3_give_0 19 rfl rfl)
theorem dX3_give_20 : decode cX3_give 20 = .ok (.ldc_w 513, 3) := dk_19 2 1 (dk_at dksX3_give_0 20 rfl rfl)
theorem dX3_give_23 : decode cX3_give 23 = .ok (.if_icmp .le 6, 3) := dk_164 0 6 (dk_at dksX3_give_1 0 rfl rfl)
theorem dX3_give_26 : decode cX3_give 26 = .ok (.bipush (-3), 2) := dk_16 253 (dk_at dksX3_give_1 3 rfl rfl)
theorem dX3_give_28 : decode cX3_give 28 = .ok (.ireturn, 1) := dk_172 (dk_at dksX3_give_1 5 rfl rfl)
theorem dX3_give_29 : decode cX3_give 29 = .ok (.aload_n 0, 1) := dk_42 (dk_at dksX3_give_1 6 rfl rfl)
theorem dX3_give_30 : decode cX3_give 30 = .ok (.dup, 1) := dk_89 (dk_at dksX3_give_1 7 rfl rfl)
theorem dX3_give_31 : decode cX3_give 31 = .ok (.getfield 429, 3) := dk_180 1 173 (dk_at dksX3_give_1 8 rfl rfl)
theorem dX3_give_34 : decode cX3_give 34 = .ok (.iload_n 1, 1) := dk_27 (dk_at dksX3_give_1 11 rfl rfl)
theorem dX3_give_35 : decode cX3_give 35 = .ok (.iadd, 1) := dk_96 (dk_at dksX3_give_1 12 rfl rfl)
theorem dX3_give_36 : decode cX3_give 36 = .ok (.putfield 429, 3) := dk_181 1 173 (dk_at dksX3_give_1 13 rfl rfl)
theorem dX3_give_39 : decode cX3_give 39 = .ok (.aload_n 0, 1) := dk_42 (dk_at dksX3_give_1 16 rfl rfl)
theorem dX3_give_40 : decode cX3_give 40 = .ok (.getfield 429, 3) := dk_180 1 173 (dk_at dksX3_give_1 17 rfl rfl)
theorem dX3_give_43 : decode cX3_give 43 = .ok (.ireturn, 1) := dk_172 (dk_at dksX3_give_1 20 rfl rfl)
abbrev cX3_share : ByteArray := prog_26_method_103_code
def yX3_share : MethodName := ⟨RX3, "share", "(I)I"⟩
def dkwX3_share_3 : List UInt8 := [42, 89, 180, 1, 173, 29, 100, 181, 1, 173, 132, 4, 1, 167, 255, 213, 29, 172]
abbrev dktX3_share_3 : List UInt8 := dkwX3_share_3 ++ []
def dkwX3_share_2 : List UInt8 := [162, 0, 40, 27, 21, 4, 122, 4, 126, 4, 160, 0, 24, 42, 180, 0, 68, 21, 4, 92, 46, 29, 96, 79]
abbrev dktX3_share_2 : List UInt8 := dkwX3_share_2 ++ dktX3_share_3
def dkwX3_share_1 : List UInt8 := [61, 42, 180, 1, 173, 28, 108, 62, 29, 154, 0, 6, 16, 254, 172, 3, 54, 4, 21, 4, 42, 180, 1, 31]
abbrev dktX3_share_1 : List UInt8 := dkwX3_share_1 ++ dktX3_share_2
def dkwX3_share_0 : List UInt8 := [27, 133, 10, 4, 42, 180, 1, 31, 120, 4, 100, 133, 184, 0, 214, 154, 0, 5, 2, 172, 27, 184, 1, 181]
abbrev dktX3_share_0 : List UInt8 := dkwX3_share_0 ++ dktX3_share_1
theorem dksX3_share_0 : cX3_share.data.toList.drop 0 = dktX3_share_0 := by decide +kernel
theorem dksX3_share_1 : cX3_share.data.toList.drop 24 = dktX3_share_1 := dk_seg dksX3_share_0 24 rfl rfl
theorem dksX3_share_2 : cX3_share.data.toList.drop 48 = dktX3_share_2 := dk_seg dksX3_share_1 24 rfl rfl
theorem dksX3_share_3 : cX3_share.data.toList.drop 72 = dktX3_share_3 := dk_seg dksX3_share_2 24 rfl rfl
theorem dX3_share_0 : decode cX3_share 0 = .ok (.iload_n 1, 1) := dk_27 (dk_at dksX3_share_0 0 rfl rfl)
theorem dX3_share_1 : decode cX3_share 1 = .ok (.i2l, 1) := dk_133 (dk_at dksX3_share_0 1 rfl rfl)
theorem dX3_share_2 : decode cX3_share 2 = .ok (.lconst 1, 1) := dk_10 (dk_at dksX3_share_0 2 rfl rfl)
theorem dX3_share_3 : decode cX3_share 3 = .ok (.iconst 1, 1) := dk_4 (dk_at dksX3_share_0 3 rfl rfl)
theorem dX3_share_4 : decode cX3_share 4 = .ok (.aload_n 0, 1) := dk_42 (dk_at dksX3_share_0 4 rfl rfl)
theorem dX3_share_5 : decode cX3_share 5 = .ok (.getfield 287, 3) := dk_180 1 31 (dk_at dksX3_share_0 5 rfl rfl)
theorem dX3_share_8 : decode cX3_share 8 = .ok (.ishl, 1) := dk_120 (dk_at dksX3_share_0 8 rfl rfl)
theorem dX3_share_9 : decode cX3_share 9 = .ok (.iconst 1, 1) := dk_4 (dk_at dksX3_share_0 9 rfl rfl)
theorem dX3_share_10 : decode cX3_share 10 = .ok (.isub, 1) := dk_100 (dk_at dksX3_share_0 10 rfl rfl)
theorem dX3_share_11 : decode cX3_share 11 = .ok (.i2l, 1) := dk_133 (dk_at dksX3_share_0 11 rfl rfl)
theorem dX3_share_12 : decode cX3_share 12 = .ok (.invokestatic 214, 3) := dk_184 0 214 (dk_at dksX3_share_0 12 rfl rfl)
theorem dX3_share_15 : decode cX3_share 15 = .ok (.ifCond .ne 5, 3) := dk_154 0 5 (dk_at dksX3_share_0 15 rfl rfl)
theorem dX3_share_18 : decode cX3_share 18 = .ok (.iconst (-1), 1) := dk_2 (dk_at dksX3_share_0 18 rfl rfl)
theorem dX3_share_19 : decode cX3_share 19 = .ok (.ireturn, 1) := dk_172 (dk_at dksX3_share_0 19 rfl rfl)
theorem dX3_share_20 : decode cX3_share 20 = .ok (.iload_n 1, 1) := dk_27 (dk_at dksX3_share_0 20 rfl rfl)
theorem dX3_share_21 : decode cX3_share 21 = .ok (.invokestatic 437, 3) := dk_184 1 181 (dk_at dksX3_share_0 21 rfl rfl)
theorem dX3_share_24 : decode cX3_share 24 = .ok (.istore_n 2, 1) := dk_61 (dk_at dksX3_share_1 0 rfl rfl)
theorem dX3_share_25 : decode cX3_share 25 = .ok (.aload_n 0, 1) := dk_42 (dk_at dksX3_share_1 1 rfl rfl)
theorem dX3_share_26 : decode cX3_share 26 = .ok (.getfield 429, 3) := dk_180 1 173 (dk_at dksX3_share_1 2 rfl rfl)
theorem dX3_share_29 : decode cX3_share 29 = .ok (.iload_n 2, 1) := dk_28 (dk_at dksX3_share_1 5 rfl rfl)
theorem dX3_share_30 : decode cX3_share 30 = .ok (.idiv, 1) := dk_108 (dk_at dksX3_share_1 6 rfl rfl)
theorem dX3_share_31 : decode cX3_share 31 = .ok (.istore_n 3, 1) := dk_62 (dk_at dksX3_share_1 7 rfl rfl)
theorem dX3_share_32 : decode cX3_share 32 = .ok (.iload_n 3, 1) := dk_29 (dk_at dksX3_share_1 8 rfl rfl)
theorem dX3_share_33 : decode cX3_share 33 = .ok (.ifCond .ne 6, 3) := dk_154 0 6 (dk_at dksX3_share_1 9 rfl rfl)
theorem dX3_share_36 : decode cX3_share 36 = .ok (.bipush (-2), 2) := dk_16 254 (dk_at dksX3_share_1 12 rfl rfl)
theorem dX3_share_38 : decode cX3_share 38 = .ok (.ireturn, 1) := dk_172 (dk_at dksX3_share_1 14 rfl rfl)
theorem dX3_share_39 : decode cX3_share 39 = .ok (.iconst 0, 1) := dk_3 (dk_at dksX3_share_1 15 rfl rfl)
theorem dX3_share_40 : decode cX3_share 40 = .ok (.istore 4, 2) := dk_54 4 (dk_at dksX3_share_1 16 rfl rfl)
theorem dX3_share_42 : decode cX3_share 42 = .ok (.iload 4, 2) := dk_21 4 (dk_at dksX3_share_1 18 rfl rfl)
theorem dX3_share_44 : decode cX3_share 44 = .ok (.aload_n 0, 1) := dk_42 (dk_at dksX3_share_1 20 rfl rfl)
theorem dX3_share_45 : decode cX3_share 45 = .ok (.getfield 287, 3) := dk_180 1 31 (dk_at dksX3_share_1 21 rfl rfl)
theorem dX3_share_48 : decode cX3_share 48 = .ok (.if_icmp .ge 40, 3) := dk_162 0 40 (dk_at dksX3_share_2 0 rfl rfl)
theorem dX3_share_51 : decode cX3_share 51 = .ok (.iload_n 1, 1) := dk_27 (dk_at dksX3_share_2 3 rfl rfl)
theorem dX3_share_52 : decode cX3_share 52 = .ok (.iload 4, 2) := dk_21 4 (dk_at dksX3_share_2 4 rfl rfl)
theorem dX3_share_54 : decode cX3_share 54 = .ok (.ishr, 1) := dk_122 (dk_at dksX3_share_2 6 rfl rfl)
theorem dX3_share_55 : decode cX3_share 55 = .ok (.iconst 1, 1) := dk_4 (dk_at dksX3_share_2 7 rfl rfl)
theorem dX3_share_56 : decode cX3_share 56 = .ok (.iand, 1) := dk_126 (dk_at dksX3_share_2 8 rfl rfl)
theorem dX3_share_57 : decode cX3_share 57 = .ok (.iconst 1, 1) := dk_4 (dk_at dksX3_share_2 9 rfl rfl)
theorem dX3_share_58 : decode cX3_share 58 = .ok (.if_icmp .ne 24, 3) := dk_160 0 24 (dk_at dksX3_share_2 10 rfl rfl)
theorem dX3_share_61 : decode cX3_share 61 = .ok (.aload_n 0, 1) := dk_42 (dk_at dksX3_share_2 13 rfl rfl)
theorem dX3_share_62 : decode cX3_share 62 = .ok (.getfield 68, 3) := dk_180 0 68 (dk_at dksX3_share_2 14 rfl rfl)
theorem dX3_share_65 : decode cX3_share 65 = .ok (.iload 4, 2) := dk_21 4 (dk_at dksX3_share_2 17 rfl rfl)
theorem dX3_share_67 : decode cX3_share 67 = .ok (.dup2, 1) := dk_92 (dk_at dksX3_share_2 19 rfl rfl)
theorem dX3_share_68 : decode cX3_share 68 = .ok (.iaload, 1) := dk_46 (dk_at dksX3_share_2 20 rfl rfl)
theorem dX3_share_69 : decode cX3_share 69 = .ok (.iload_n 3, 1) := dk_29 (dk_at dksX3_share_2 21 rfl rfl)
theorem dX3_share_70 : decode cX3_share 70 = .ok (.iadd, 1) := dk_96 (dk_at dksX3_share_2 22 rfl rfl)
theorem dX3_share_71 : decode cX3_share 71 = .ok (.iastore, 1) := dk_79 (dk_at dksX3_share_2 23 rfl rfl)
theorem dX3_share_72 : decode cX3_share 72 = .ok (.aload_n 0, 1) := dk_42 (dk_at dksX3_share_3 0 rfl rfl)
theorem dX3_share_73 : decode cX3_share 73 = .ok (.dup, 1) := dk_89 (dk_at dksX3_share_3 1 rfl rfl)
theorem dX3_share_74 : decode cX3_share 74 = .ok (.getfield 429, 3) := dk_180 1 173 (dk_at dksX3_share_3 2 rfl rfl)
theorem dX3_share_77 : decode cX3_share 77 = .ok (.iload_n 3, 1) := dk_29 (dk_at dksX3_share_3 5 rfl rfl)
theorem dX3_share_78 : decode cX3_share 78 = .ok (.isub, 1) := dk_100 (dk_at dksX3_share_3 6 rfl rfl)
theorem dX3_share_79 : decode cX3_share 79 = .ok (.putfield 429, 3) := dk_181 1 173 (dk_at dksX3_share_3 7 rfl rfl)
theorem dX3_share_82 : decode cX3_share 82 = .ok (.iinc 4 1, 3) := dk_132 4 1 (dk_at dksX3_share_3 10 rfl rfl)
theorem dX3_share_85 : decode cX3_share 85 = .ok (.goto (-43), 3) := dk_167 255 213 (dk_at dksX3_share_3 13 rfl rfl)
theorem dX3_share_88 : decode cX3_share 88 = .ok (.iload_n 3, 1) := dk_29 (dk_at dksX3_share_3 16 rfl rfl)
theorem dX3_share_89 : decode cX3_share 89 = .ok (.ireturn, 1) := dk_172 (dk_at dksX3_share_3 17 rfl rfl)
abbrev cX3_image : ByteArray := prog_26_method_104_code
def yX3_image : MethodName := ⟨RX3, "image", "()I"⟩
def dkwX3_image_3 : List UInt8 := [27, 42, 180, 0, 68, 27, 46, 79, 132, 1, 1, 167, 255, 199, 4, 172]
abbrev dktX3_image_3 : List UInt8 := dkwX3_image_3 ++ []
def dkwX3_image_2 : List UInt8 := [27, 42, 180, 0, 62, 27, 51, 84, 42, 180, 0, 205, 27, 42, 180, 0, 65, 27, 46, 79, 42, 180, 0, 208]
abbrev dktX3_image_2 : List UInt8 := dkwX3_image_2 ++ dktX3_image_3
def dkwX3_image_1 : List UInt8 := [3, 60, 27, 16, 8, 162, 0, 57, 42, 180, 0, 199, 27, 42, 180, 0, 71, 27, 46, 79, 42, 180, 0, 202]
abbrev dktX3_image_1 : List UInt8 := dkwX3_image_1 ++ dktX3_image_2
def dkwX3_image_0 : List UInt8 := [42, 42, 180, 1, 31, 181, 0, 195, 42, 42, 180, 1, 44, 181, 2, 2, 42, 42, 180, 1, 173, 181, 2, 5]
abbrev dktX3_image_0 : List UInt8 := dkwX3_image_0 ++ dktX3_image_1
theorem dksX3_image_0 : cX3_image.data.toList.drop 0 = dktX3_image_0 := by decide +kernel
theorem dksX3_image_1 : cX3_image.data.toList.drop 24 = dktX3_image_1 := dk_seg dksX3_image_0 24 rfl rfl
theorem dksX3_image_2 : cX3_image.data.toList.drop 48 = dktX3_image_2 := dk_seg dksX3_image_1 24 rfl rfl
theorem dksX3_image_3 : cX3_image.data.toList.drop 72 = dktX3_image_3 := dk_seg dksX3_image_2 24 rfl rfl
theorem dX3_image_0 : decode cX3_image 0 = .ok (.aload_n 0, 1) := dk_42 (dk_at dksX3_image_0 0 rfl rfl)
theorem dX3_image_1 : decode cX3_image 1 = .ok (.aload_n 0, 1) := dk_42 (dk_at dksX3_image_0 1 rfl rfl)
theorem dX3_image_2 : decode cX3_image 2 = .ok (.getfield 287, 3) := dk_180 1 31 (dk_at dksX3_image_0 2 rfl rfl)
theorem dX3_image_5 : decode cX3_image 5 = .ok (.putfield 195, 3) := dk_181 0 195 (dk_at dksX3_image_0 5 rfl rfl)
theorem dX3_image_8 : decode cX3_image 8 = .ok (.aload_n 0, 1) := dk_42 (dk_at dksX3_image_0 8 rfl rfl)
theorem dX3_image_9 : decode cX3_image 9 = .ok (.aload_n 0, 1) := dk_42 (dk_at dksX3_image_0 9 rfl rfl)
theorem dX3_image_10 : decode cX3_image 10 = .ok (.getfield 300, 3) := dk_180 1 44 (dk_at dksX3_image_0 10 rfl rfl)
theorem dX3_image_13 : decode cX3_image 13 = .ok (.putfield 514, 3) := dk_181 2 2 (dk_at dksX3_image_0 13 rfl rfl)
theorem dX3_image_16 : decode cX3_image 16 = .ok (.aload_n 0, 1) := dk_42 (dk_at dksX3_image_0 16 rfl rfl)
theorem dX3_image_17 : decode cX3_image 17 = .ok (.aload_n 0, 1) := dk_42 (dk_at dksX3_image_0 17 rfl rfl)
theorem dX3_image_18 : decode cX3_image 18 = .ok (.getfield 429, 3) := dk_180 1 173 (dk_at dksX3_image_0 18 rfl rfl)
theorem dX3_image_21 : decode cX3_image 21 = .ok (.putfield 517, 3) := dk_181 2 5 (dk_at dksX3_image_0 21 rfl rfl)
theorem dX3_image_24 : decode cX3_image 24 = .ok (.iconst 0, 1) := dk_3 (dk_at dksX3_image_1 0 rfl rfl)
theorem dX3_image_25 : decode cX3_image 25 = .ok (.istore_n 1, 1) := dk_60 (dk_at dksX3_image_1 1 rfl rfl)
theorem dX3_image_26 : decode cX3_image 26 = .ok (.iload_n 1, 1) := dk_27 (dk_at dksX3_image_1 2 rfl rfl)
theorem dX3_image_27 : decode cX3_image 27 = .ok (.bipush 8, 2) := dk_16 8 (dk_at dksX3_image_1 3 rfl rfl)
theorem dX3_image_29 : decode cX3_image 29 = .ok (.if_icmp .ge 57, 3) := dk_162 0 57 (dk_at dksX3_image_1 5 rfl rfl)
theorem dX3_image_32 : decode cX3_image 32 = .ok (.aload_n 0, 1) := dk_42 (dk_at dksX3_image_1 8 rfl rfl)
theorem dX3_image_33 : decode cX3_image 33 = .ok (.getfield 199, 3) := dk_180 0 199 (dk_at dksX3_image_1 9 rfl rfl)
theorem dX3_image_36 : decode cX3_image 36 = .ok (.iload_n 1, 1) := dk_27 (dk_at dksX3_image_1 12 rfl rfl)
theorem dX3_image_37 : decode cX3_image 37 = .ok (.aload_n 0, 1) := dk_42 (dk_at dksX3_image_1 13 rfl rfl)
theorem dX3_image_38 : decode cX3_image 38 = .ok (.getfield 71, 3) := dk_180 0 71 (dk_at dksX3_image_1 14 rfl rfl)
theorem dX3_image_41 : decode cX3_image 41 = .ok (.iload_n 1, 1) := dk_27 (dk_at dksX3_image_1 17 rfl rfl)
theorem dX3_image_42 : decode cX3_image 42 = .ok (.iaload, 1) := dk_46 (dk_at dksX3_image_1 18 rfl rfl)
theorem dX3_image_43 : decode cX3_image 43 = .ok (.iastore, 1) := dk_79 (dk_at dksX3_image_1 19 rfl rfl)
theorem dX3_image_44 : decode cX3_image 44 = .ok (.aload_n 0, 1) := dk_42 (dk_at dksX3_image_1 20 rfl rfl)
theorem dX3_image_45 : decode cX3_image 45 = .ok (.getfield 202, 3) := dk_180 0 202 (dk_at dksX3_image_1 21 rfl rfl)
theorem dX3_image_48 : decode cX3_image 48 = .ok (.iload_n 1, 1) := dk_27 (dk_at dksX3_image_2 0 rfl rfl)
theorem dX3_image_49 : decode cX3_image 49 = .ok (.aload_n 0, 1) := dk_42 (dk_at dksX3_image_2 1 rfl rfl)
theorem dX3_image_50 : decode cX3_image 50 = .ok (.getfield 62, 3) := dk_180 0 62 (dk_at dksX3_image_2 2 rfl rfl)
theorem dX3_image_53 : decode cX3_image 53 = .ok (.iload_n 1, 1) := dk_27 (dk_at dksX3_image_2 5 rfl rfl)
theorem dX3_image_54 : decode cX3_image 54 = .ok (.baload, 1) := dk_51 (dk_at dksX3_image_2 6 rfl rfl)
theorem dX3_image_55 : decode cX3_image 55 = .ok (.bastore, 1) := dk_84 (dk_at dksX3_image_2 7 rfl rfl)
theorem dX3_image_56 : decode cX3_image 56 = .ok (.aload_n 0, 1) := dk_42 (dk_at dksX3_image_2 8 rfl rfl)
theorem dX3_image_57 : decode cX3_image 57 = .ok (.getfield 205, 3) := dk_180 0 205 (dk_at dksX3_image_2 9 rfl rfl)
theorem dX3_image_60 : decode cX3_image 60 = .ok (.iload_n 1, 1) := dk_27 (dk_at dksX3_image_2 12 rfl rfl)
theorem dX3_image_61 : decode cX3_image 61 = .ok (.aload_n 0, 1) := dk_42 (dk_at dksX3_image_2 13 rfl rfl)
theorem dX3_image_62 : decode cX3_image 62 = .ok (.getfield 65, 3) := dk_180 0 65 (dk_at dksX3_image_2 14 rfl rfl)
theorem dX3_image_65 : decode cX3_image 65 = .ok (.iload_n 1, 1) := dk_27 (dk_at dksX3_image_2 17 rfl rfl)
theorem dX3_image_66 : decode cX3_image 66 = .ok (.iaload, 1) := dk_46 (dk_at dksX3_image_2 18 rfl rfl)
theorem dX3_image_67 : decode cX3_image 67 = .ok (.iastore, 1) := dk_79 (dk_at dksX3_image_2 19 rfl rfl)
theorem dX3_image_68 : decode cX3_image 68 = .ok (.aload_n 0, 1) := dk_42 (dk_at dksX3_image_2 20 rfl rfl)
theorem dX3_image_69 : decode cX3_image 69 = .ok (.getfield 208, 3) := dk_180 0 208 (dk_at dksX3_image_2 21 rfl rfl)
theorem dX3_image_72 : decode cX3_image 72 = .ok (.iload_n 1, 1) := dk_27 (dk_at dksX3_image_3 0 rfl rfl)
theorem dX3_image_73 : decode cX3_image 73 = .ok (.aload_n 0, 1) := dk_42 (dk_at dksX3_image_3 1 rfl rfl)
theorem dX3_image_74 : decode cX3_image 74 = .ok (.getfield 68, 3) := dk_180 0 68 (dk_at dksX3_image_3 2 rfl rfl)
theorem dX3_image_77 : decode cX3_image 77 = .ok (.iload_n 1, 1) := dk_27 (dk_at dksX3_image_3 5 rfl rfl)
theorem dX3_image_78 : decode cX3_image 78 = .ok (.iaload, 1) := dk_46 (dk_at dksX3_image_3 6 rfl rfl)
theorem dX3_image_79 : decode cX3_image 79 = .ok (.iastore, 1) := dk_79 (dk_at dksX3_image_3 7 rfl rfl)
theorem dX3_image_80 : decode cX3_image 80 = .ok (.iinc 1 1, 3) := dk_132 1 1 (dk_at dksX3_image_3 8 rfl rfl)
theorem dX3_image_83 : decode cX3_image 83 = .ok (.goto (-57), 3) := dk_167 255 199 (dk_at dksX3_image_3 11 rfl rfl)
theorem dX3_image_86 : decode cX3_image 86 = .ok (.iconst 1, 1) := dk_4 (dk_at dksX3_image_3 14 rfl rfl)
theorem dX3_image_87 : decode cX3_image 87 = .ok (.ireturn, 1) := dk_172 (dk_at dksX3_image_3 15 rfl rfl)
abbrev cX3_back : ByteArray := prog_26_method_105_code
def yX3_back : MethodName := ⟨RX3, "back", "()I"⟩
def dkwX3_back_6 : List UInt8 := [167, 255, 149, 42, 180, 0, 195, 172]
abbrev dktX3_back_6 : List UInt8 := dkwX3_back_6 ++ []
def dkwX3_back_5 : List UInt8 := [180, 0, 68, 27, 28, 153, 0, 12, 42, 180, 0, 208, 27, 46, 167, 0, 4, 3, 79, 132, 1, 1]
abbrev dktX3_back_5 : List UInt8 := dkwX3_back_5 ++ dktX3_back_6
def dkwX3_back_4 : List UInt8 := [84, 42, 180, 0, 65, 27, 28, 153, 0, 12, 42, 180, 0, 205, 27, 46, 167, 0, 4, 3, 79, 42]
abbrev dktX3_back_4 : List UInt8 := dkwX3_back_4 ++ dktX3_back_5
def dkwX3_back_3 : List UInt8 := [79, 42, 180, 0, 62, 27, 28, 153, 0, 16, 42, 180, 0, 202, 27, 51, 153, 0, 7, 4, 167, 0, 4, 3]
abbrev dktX3_back_3 : List UInt8 := dkwX3_back_3 ++ dktX3_back_4
def dkwX3_back_2 : List UInt8 := [167, 0, 4, 3, 61, 42, 180, 0, 71, 27, 28, 153, 0, 12, 42, 180, 0, 199, 27, 46, 167, 0, 4, 27]
abbrev dktX3_back_2 : List UInt8 := dkwX3_back_2 ++ dktX3_back_3
def dkwX3_back_1 : List UInt8 := [180, 2, 5, 181, 1, 173, 3, 60, 27, 16, 8, 162, 0, 107, 27, 42, 180, 0, 195, 162, 0, 7, 4]
abbrev dktX3_back_1 : List UInt8 := dkwX3_back_1 ++ dktX3_back_2
def dkwX3_back_0 : List UInt8 := [42, 180, 0, 195, 16, 252, 160, 0, 6, 16, 252, 172, 42, 42, 180, 2, 2, 181, 1, 44, 42, 42]
abbrev dktX3_back_0 : List UInt8 := dkwX3_back_0 ++ dktX3_back_1
theorem dksX3_back_0 : cX3_back.data.toList.drop 0 = dktX3_back_0 := by decide +kernel
theorem dksX3_back_1 : cX3_back.data.toList.drop 22 = dktX3_back_1 := dk_seg dksX3_back_0 22 rfl rfl
theorem dksX3_back_2 : cX3_back.data.toList.drop 45 = dktX3_back_2 := dk_seg dksX3_back_1 23 rfl rfl
theorem dksX3_back_3 : cX3_back.data.toList.drop 69 = dktX3_back_3 := dk_seg dksX3_back_2 24 rfl rfl
theorem dksX3_back_4 : cX3_back.data.toList.drop 93 = dktX3_back_4 := dk_seg dksX3_back_3 24 rfl rfl
theorem dksX3_back_5 : cX3_back.data.toList.drop 115 = dktX3_back_5 := dk_seg dksX3_back_4 22 rfl rfl
theorem dksX3_back_6 : cX3_back.data.toList.drop 137 = dktX3_back_6 := dk_seg dksX3_back_5 22 rfl rfl
theorem dX3_back_0 : decode cX3_back 0 = .ok (.aload_n 0, 1) := dk_42 (dk_at dksX3_back_0 0 rfl rfl)
theorem dX3_back_1 : decode cX3_back 1 = .ok (.getfield 195, 3) := dk_180 0 195 (dk_at dksX3_back_0 1 rfl rfl)
theorem dX3_back_4 : decode cX3_back 4 = .ok (.bipush (-4), 2) := dk_16 252 (dk_at dksX3_back_0 4 rfl rfl)
theorem dX3_back_6 : decode cX3_back 6 = .ok (.if_icmp .ne 6, 3) := dk_160 0 6 (dk_at dksX3_back_0 6 rfl rfl)
theorem dX3_back_9 : decode cX3_back 9 = .ok (.bipush (-4), 2) := dk_16 252 (dk_at dksX3_back_0 9 rfl rfl)
theorem dX3_back_11 : decode cX3_back 11 = .ok (.ireturn, 1) := dk_172 (dk_at dksX3_back_0 11 rfl rfl)
theorem dX3_back_12 : decode cX3_back 12 = .ok (.aload_n 0, 1) := dk_42 (dk_at dksX3_back_0 12 rfl rfl)
theorem dX3_back_13 : decode cX3_back 13 = .ok (.aload_n 0, 1) := dk_42 (dk_at dksX3_back_0 13 rfl rfl)
theorem dX3_back_14 : decode cX3_back 14 = .ok (.getfield 514, 3) := dk_180 2 2 (dk_at dksX3_back_0 14 rfl rfl)
theorem dX3_back_17 : decode cX3_back 17 = .ok (.putfield 300, 3) := dk_181 1 44 (dk_at dksX3_back_0 17 rfl rfl)
theorem dX3_back_20 : decode cX3_back 20 = .ok (.aload_n 0, 1) := dk_42 (dk_at dksX3_back_0 20 rfl rfl)
theorem dX3_back_21 : decode cX3_back 21 = .ok (.aload_n 0, 1) := dk_42 (dk_at dksX3_back_0 21 rfl rfl)
theorem dX3_back_22 : decode cX3_back 22 = .ok (.getfield 517, 3) := dk_180 2 5 (dk_at dksX3_back_1 0 rfl rfl)
theorem dX3_back_25 : decode cX3_back 25 = .ok (.putfield 429, 3) := dk_181 1 173 (dk_at dksX3_back_1 3 rfl rfl)
theorem dX3_back_28 : decode cX3_back 28 = .ok (.iconst 0, 1) := dk_3 (dk_at dksX3_back_1 6 rfl rfl)
theorem dX3_back_29 : decode cX3_back 29 = .ok (.istore_n 1, 1) := dk_60 (dk_at dksX3_back_1 7 rfl rfl)
theorem dX3_back_30 : decode cX3_back 30 = .ok (.iload_n 1, 1) := dk_27 (dk_at dksX3_back_1 8 rfl rfl)
theorem dX3_back_31 : decode cX3_back 31 = .ok (.bipush 8, 2) := dk_16 8 (dk_at dksX3_back_1 9 rfl rfl)
theorem dX3_back_33 : decode cX3_back 33 = .ok (.if_icmp .ge 107, 3) := dk_162 0 107 (dk_at dksX3_back_1 11 rfl rfl)
theorem dX3_back_36 : decode cX3_back 36 = .ok (.iload_n 1, 1) := dk_27 (dk_at dksX3_back_1 14 rfl rfl)
theorem dX3_back_37 : decode cX3_back 37 = .ok (.aload_n 0, 1) := dk_42 (dk_at dksX3_back_1 15 rfl rfl)
theorem dX3_back_38 : decode cX3_back 38 = .ok (.getfield 195, 3) := dk_180 0 195 (dk_at dksX3_back_1 16 rfl rfl)
theorem dX3_back_41 : decode cX3_back 41 = .ok (.if_icmp .ge 7, 3) := dk_162 0 7 (dk_at dksX3_back_1 19 rfl rfl)
theorem dX3_back_44 : decode cX3_back 44 = .ok (.iconst 1, 1) := dk_4 (dk_at dksX3_back_1 22 rfl rfl)
theorem dX3_back_45 : decode cX3_back 45 = .ok (.goto 4, 3) := dk_167 0 4 (dk_at dksX3_back_2 0 rfl rfl)
theorem dX3_back_48 : decode cX3_back 48 = .ok (.iconst 0, 1) := dk_3 (dk_at dksX3_back_2 3 rfl rfl)
theorem dX3_back_49 : decode cX3_back 49 = .ok (.istore_n 2, 1) := dk_61 (dk_at dksX3_back_2 4 rfl rfl)
theorem dX3_back_50 : decode cX3_back 50 = .ok (.aload_n 0, 1) := dk_42 (dk_at dksX3_back_2 5 rfl rfl)
theorem dX3_back_51 : decode cX3_back 51 = .ok (.getfield 71, 3) := dk_180 0 71 (dk_at dksX3_back_2 6 rfl rfl)
theorem dX3_back_54 : decode cX3_back 54 = .ok (.iload_n 1, 1) := dk_27 (dk_at dksX3_back_2 9 rfl rfl)
theorem dX3_back_55 : decode cX3_back 55 = .ok (.iload_n 2, 1) := dk_28 (dk_at dksX3_back_2 10 rfl rfl)
theorem dX3_back_56 : decode cX3_back 56 = .ok (.ifCond .eq 12, 3) := dk_153 0 12 (dk_at dksX3_back_2 11 rfl rfl)
theorem dX3_back_59 : decode cX3_back 59 = .ok (.aload_n 0, 1) := dk_42 (dk_at dksX3_back_2 14 rfl rfl)
theorem dX3_back_60 : decode cX3_back 60 = .ok (.getfield 199, 3) := dk_180 0 199 (dk_at dksX3_back_2 15 rfl rfl)
theorem dX3_back_63 : decode cX3_back 63 = .ok (.iload_n 1, 1) := dk_27 (dk_at dksX3_back_2 18 rfl rfl)
theorem dX3_back_64 : decode cX3_back 64 = .ok (.iaload, 1) := dk_46 (dk_at dksX3_back_2 19 rfl rfl)
theorem dX3_back_65 : decode cX3_back 65 = .ok (.goto 4, 3) := dk_167 0 4 (dk_at dksX3_back_2 20 rfl rfl)
theorem dX3_back_68 : decode cX3_back 68 = .ok (.iload_n 1, 1) := dk_27 (dk_at dksX3_back_2 23 rfl rfl)
theorem dX3_back_69 : decode cX3_back 69 = .ok (.iastore, 1) := dk_79 (dk_at dksX3_back_3 0 rfl rfl)
theorem dX3_back_70 : decode cX3_back 70 = .ok (.aload_n 0, 1) := dk_42 (dk_at dksX3_back_3 1 rfl rfl)
theorem dX3_back_71 : decode cX3_back 71 = .ok (.getfield 62, 3) := dk_180 0 62 (dk_at dksX3_back_3 2 rfl rfl)
theorem dX3_back_74 : decode cX3_back 74 = .ok (.iload_n 1, 1) := dk_27 (dk_at dksX3_back_3 5 rfl rfl)
theorem dX3_back_75 : decode cX3_back 75 = .ok (.iload_n 2, 1) := dk_28 (dk_at dksX3_back_3 6 rfl rfl)
theorem dX3_back_76 : decode cX3_back 76 = .ok (.ifCond .eq 16, 3) := dk_153 0 16 (dk_at dksX3_back_3 7 rfl rfl)
theorem dX3_back_79 : decode cX3_back 79 = .ok (.aload_n 0, 1) := dk_42 (dk_at dksX3_back_3 10 rfl rfl)
theorem dX3_back_80 : decode cX3_back 80 = .ok (.getfield 202, 3) := dk_180 0 202 (dk_at dksX3_back_3 11 rfl rfl)
theorem dX3_back_83 : decode cX3_back 83 = .ok (.iload_n 1, 1) := dk_27 (dk_at dksX3_back_3 14 rfl rfl)
theorem dX3_back_84 : decode cX3_back 84 = .ok (.baload, 1) := dk_51 (dk_at dksX3_back_3 15 rfl rfl)
theorem dX3_back_85 : decode cX3_back 85 = .ok (.ifCond .eq 7, 3) := dk_153 0 7 (dk_at dksX3_back_3 16 rfl rfl)
theorem dX3_back_88 : decode cX3_back 88 = .ok (.iconst 1, 1) := dk_4 (dk_at dksX3_back_3 19 rfl rfl)
theorem dX3_back_89 : decode cX3_back 89 = .ok (.goto 4, 3) := dk_167 0 4 (dk_at dksX3_back_3 20 rfl rfl)
theorem dX3_back_92 : decode cX3_back 92 = .ok (.iconst 0, 1) := dk_3 (dk_at dksX3_back_3 23 rfl rfl)
theorem dX3_back_93 : decode cX3_back 93 = .ok (.bastore, 1) := dk_84 (dk_at dksX3_back_4 0 rfl rfl)
theorem dX3_back_94 : decode cX3_back 94 = .ok (.aload_n 0, 1) := dk_42 (dk_at dksX3_back_4 1 rfl rfl)
theorem dX3_back_95 : decode cX3_back 95 = .ok (.getfield 65, 3) := dk_180 0 65 (dk_at dksX3_back_4 2 rfl rfl)
theorem dX3_back_98 : decode cX3_back 98 = .ok (.iload_n 1, 1) := dk_27 (dk_at dksX3_back_4 5 rfl rfl)
theorem dX3_back_99 : decode cX3_back 99 = .ok (.iload_n 2, 1) := dk_28 (dk_at dksX3_back_4 6 rfl rfl)
theorem dX3_back_100 : decode cX3_back 100 = .ok (.ifCond .eq 12, 3) := dk_153 0 12 (dk_at dksX3_back_4 7 rfl rfl)
theorem dX3_back_103 : decode cX3_back 103 = .ok (.aload_n 0, 1) := dk_42 (dk_at dksX3_back_4 10 rfl rfl)
theorem dX3_back_104 : decode cX3_back 104 = .ok (.getfield 205, 3) := dk_180 0 205 (dk_at dksX3_back_4 11 rfl rfl)
theorem dX3_back_107 : decode cX3_back 107 = .ok (.iload_n 1, 1) := dk_27 (dk_at dksX3_back_4 14 rfl rfl)
theorem dX3_back_108 : decode cX3_back 108 = .ok (.iaload, 1) := dk_46 (dk_at dksX3_back_4 15 rfl rfl)
theorem dX3_back_109 : decode cX3_back 109 = .ok (.goto 4, 3) := dk_167 0 4 (dk_at dksX3_back_4 16 rfl rfl)
theorem dX3_back_112 : decode cX3_back 112 = .ok (.iconst 0, 1) := dk_3 (dk_at dksX3_back_4 19 rfl rfl)
theorem dX3_back_113 : decode cX3_back 113 = .ok (.iastore, 1) := dk_79 (dk_at dksX3_back_4 20 rfl rfl)
theorem dX3_back_114 : decode cX3_back 114 = .ok (.aload_n 0, 1) := dk_42 (dk_at dksX3_back_4 21 rfl rfl)
theorem dX3_back_115 : decode cX3_back 115 = .ok (.getfield 68, 3) := dk_180 0 68 (dk_at dksX3_back_5 0 rfl rfl)
theorem dX3_back_118 : decode cX3_back 118 = .ok (.iload_n 1, 1) := dk_27 (dk_at dksX3_back_5 3 rfl rfl)
theorem dX3_back_119 : decode cX3_back 119 = .ok (.iload_n 2, 1) := dk_28 (dk_at dksX3_back_5 4 rfl rfl)
theorem dX3_back_120 : decode cX3_back 120 = .ok (.ifCond .eq 12, 3) := dk_153 0 12 (dk_at dksX3_back_5 5 rfl rfl)
theorem dX3_back_123 : decode cX3_back 123 = .ok (.aload_n 0, 1) := dk_42 (dk_at dksX3_back_5 8 rfl rfl)
theorem dX3_back_124 : decode cX3_back 124 = .ok (.getfield 208, 3) := dk_180 0 208 (dk_at dksX3_back_5 9 rfl rfl)
theorem dX3_back_127 : decode cX3_back 127 = .ok (.iload_n 1, 1) := dk_27 (dk_at dksX3_back_5 12 rfl rfl)
theorem dX3_back_128 : decode cX3_back 128 = .ok (.iaload, 1) := dk_46 (dk_at dksX3_back_5 13 rfl rfl)
theorem dX3_back_129 : decode cX3_back 129 = .ok (.goto 4, 3) := dk_167 0 4 (dk_at dksX3_back_5 14 rfl rfl)
theorem dX3_back_132 : decode cX3_back 132 = .ok (.iconst 0, 1) := dk_3 (dk_at dksX3_back_5 17 rfl rfl)
theorem dX3_back_133 : decode cX3_back 133 = .ok (.iastore, 1) := dk_79 (dk_at dksX3_back_5 18 rfl rfl)
theorem dX3_back_134 : decode cX3_back 134 = .ok (.iinc 1 1, 3) := dk_132 1 1 (dk_at dksX3_back_5 19 rfl rfl)
theorem dX3_back_137 : decode cX3_back 137 = .ok (.goto (-107), 3) := dk_167 255 149 (dk_at dksX3_back_6 0 rfl rfl)
theorem dX3_back_140 : decode cX3_back 140 = .ok (.aload_n 0, 1) := dk_42 (dk_at dksX3_back_6 3 rfl rfl)
theorem dX3_back_141 : decode cX3_back 141 = .ok (.getfield 195, 3) := dk_180 0 195 (dk_at dksX3_back_6 4 rfl rfl)
theorem dX3_back_144 : decode cX3_back 144 = .ok (.ireturn, 1) := dk_172 (dk_at dksX3_back_6 7 rfl rfl)
abbrev cX3_count : ByteArray := prog_26_method_106_code
def yX3_count : MethodName := ⟨RX3, "count", "(I)I"⟩
def dkwX3_count_7 : List UInt8 := [180, 1, 44, 172, 28, 172, 29, 172, 42, 180, 1, 47, 172, 2, 172]
abbrev dktX3_count_7 : List UInt8 := dkwX3_count_7 ++ []
def dkwX3_count_6 : List UInt8 := [172, 42, 180, 1, 176, 172, 42, 180, 1, 193, 172, 42, 180, 1, 224, 172, 42, 180, 1, 173, 172, 42]
abbrev dktX3_count_6 : List UInt8 := dkwX3_count_6 ++ dktX3_count_7
def dkwX3_count_5 : List UInt8 := [42, 180, 0, 211, 172, 42, 180, 0, 218, 172, 42, 180, 0, 221, 172, 42, 180, 1, 31, 172, 42, 180, 1, 140]
abbrev dktX3_count_5 : List UInt8 := dkwX3_count_5 ++ dktX3_count_6
def dkwX3_count_4 : List UInt8 := [170, 0, 0, 0, 0, 125, 0, 0, 0, 0, 0, 0, 0, 12, 0, 0, 0, 66, 0, 0, 0, 71, 0, 0, 0, 76, 0, 0, 0, 81, 0, 0, 0, 86, 0, 0, 0, 91, 0, 0, 0, 96, 0, 0, 0, 101, 0, 0, 0, 106, 0, 0, 0, 111, 0, 0, 0, 116, 0, 0, 0, 118, 0, 0, 0, 120]
abbrev dktX3_count_4 : List UInt8 := dkwX3_count_4 ++ dktX3_count_5
def dkwX3_count_3 : List UInt8 := [153, 0, 7, 4, 167, 0, 4, 3, 96, 62, 132, 4, 1, 167, 255, 226, 27]
abbrev dktX3_count_3 : List UInt8 := dkwX3_count_3 ++ dktX3_count_4
def dkwX3_count_2 : List UInt8 := [182, 1, 216, 3, 54, 4, 21, 4, 42, 180, 1, 193, 162, 0, 27, 29, 42, 180, 0, 137, 21, 4, 51]
abbrev dktX3_count_2 : List UInt8 := dkwX3_count_2 ++ dktX3_count_3
def dkwX3_count_1 : List UInt8 := [167, 0, 4, 3, 96, 61, 132, 3, 1, 167, 255, 228, 3, 62, 27, 16, 11, 160, 0, 45, 42, 16, 95]
abbrev dktX3_count_1 : List UInt8 := dkwX3_count_1 ++ dktX3_count_2
def dkwX3_count_0 : List UInt8 := [3, 61, 3, 62, 29, 42, 180, 1, 31, 162, 0, 26, 28, 42, 180, 0, 62, 29, 51, 153, 0, 7, 4]
abbrev dktX3_count_0 : List UInt8 := dkwX3_count_0 ++ dktX3_count_1
theorem dksX3_count_0 : cX3_count.data.toList.drop 0 = dktX3_count_0 := by decide +kernel
theorem dksX3_count_1 : cX3_count.data.toList.drop 23 = dktX3_count_1 := dk_seg dksX3_count_0 23 rfl rfl
theorem dksX3_count_2 : cX3_count.data.toList.drop 46 = dktX3_count_2 := dk_seg dksX3_count_1 23 rfl rfl
theorem dksX3_count_3 : cX3_count.data.toList.drop 69 = dktX3_count_3 := dk_seg dksX3_count_2 23 rfl rfl
theorem dksX3_count_4 : cX3_count.data.toList.drop 86 = dktX3_count_4 := dk_seg dksX3_count_3 17 rfl rfl
theorem dksX3_count_5 : cX3_count.data.toList.drop 152 = dktX3_count_5 := dk_seg dksX3_count_4 66 rfl rfl
theorem dksX3_count_6 : cX3_count.data.toList.drop 176 = dktX3_count_6 := dk_seg dksX3_count_5 24 rfl rfl
theorem dksX3_count_7 : cX3_count.data.toList.drop 198 = dktX3_count_7 := dk_seg dksX3_count_6 22 rfl rfl
theorem dX3_count_0 : decode cX3_count 0 = .ok (.iconst 0, 1) := dk_3 (dk_at dksX3_count_0 0 rfl rfl)
theorem dX3_count_1 : decode cX3_count 1 = .ok (.istore_n 2, 1) := dk_61 (dk_at dksX3_count_0 1 rfl rfl)
theorem dX3_count_2 : decode cX3_count 2 = .ok (.iconst 0, 1) := dk_3 (dk_at dksX3_count_0 2 rfl rfl)
theorem dX3_count_3 : decode cX3_count 3 = .ok (.istore_n 3, 1) := dk_62 (dk_at dksX3_count_0 3 rfl rfl)
theorem dX3_count_4 : decode cX3_count 4 = .ok (.iload_n 3, 1) := dk_29 (dk_at dksX3_count_0 4 rfl rfl)
theorem dX3_count_5 : decode cX3_count 5 = .ok (.aload_n 0, 1) := dk_42 (dk_at dksX3_count_0 5 rfl rfl)
theorem dX3_count_6 : decode cX3_count 6 = .ok (.getfield 287, 3) := dk_180 1 31 (dk_at dksX3_count_0 6 rfl rfl)
theorem dX3_count_9 : decode cX3_count 9 = .ok (.if_icmp .ge 26, 3) := dk_162 0 26 (dk_at dksX3_count_0 9 rfl rfl)
theorem dX3_count_12 : decode cX3_count 12 = .ok (.iload_n 2, 1) := dk_28 (dk_at dksX3_count_0 12 rfl rfl)
theorem dX3_count_13 : decode cX3_count 13 = .ok (.aload_n 0, 1) := dk_42 (dk_at dksX3_count_0 13 rfl rfl)
theorem dX3_count_14 : decode cX3_count 14 = .ok (.getfield 62, 3) := dk_180 0 62 (dk_at dksX3_count_0 14 rfl rfl)
theorem dX3_count_17 : decode cX3_count 17 = .ok (.iload_n 3, 1) := dk_29 (dk_at dksX3_count_0 17 rfl rfl)
theorem dX3_count_18 : decode cX3_count 18 = .ok (.baload, 1) := dk_51 (dk_at dksX3_count_0 18 rfl rfl)
theorem dX3_count_19 : decode cX3_count 19 = .ok (.ifCond .eq 7, 3) := dk_153 0 7 (dk_at dksX3_count_0 19 rfl rfl)
theorem dX3_count_22 : decode cX3_count 22 = .ok (.iconst 1, 1) := dk_4 (dk_at dksX3_count_0 22 rfl rfl)
theorem dX3_count_23 : decode cX3_count 23 = .ok (.goto 4, 3) := dk_167 0 4 (dk_at dksX3_count_1 0 rfl rfl)
theorem dX3_count_26 : decode cX3_count 26 = .ok (.iconst 0, 1) := dk_3 (dk_at dksX3_count_1 3 rfl rfl)
theorem dX3_count_27 : decode cX3_count 27 = .ok (.iadd, 1) := dk_96 (dk_at dksX3_count_1 4 rfl rfl)
theorem dX3_count_28 : decode cX3_count 28 = .ok (.istore_n 2, 1) := dk_61 (dk_at dksX3_count_1 5 rfl rfl)
theorem dX3_count_29 : decode cX3_count 29 = .ok (.iinc 3 1, 3) := dk_132 3 1 (dk_at dksX3_count_1 6 rfl rfl)
theorem dX3_count_32 : decode cX3_count 32 = .ok (.goto (-28), 3) := dk_167 255 228 (dk_at dksX3_count_1 9 rfl rfl)
theorem dX3_count_35 : decode cX3_count 35 = .ok (.iconst 0, 1) := dk_3 (dk_at dksX3_count_1 12 rfl rfl)
theorem dX3_count_36 : decode cX3_count 36 = .ok (.istore_n 3, 1) := dk_62 (dk_at dksX3_count_1 13 rfl rfl)
theorem dX3_count_37 : decode cX3_count 37 = .ok (.iload_n 1, 1) := dk_27 (dk_at dksX3_count_1 14 rfl rfl)
theorem dX3_count_38 : decode cX3_count 38 = .ok (.bipush 11, 2) := dk_16 11 (dk_at dksX3_count_1 15 rfl rfl)
theorem dX3_count_40 : decode cX3_count 40 = .ok (.if_icmp .ne 45, 3) := dk_160 0 45 (dk_at dksX3_count_1 17 rfl rfl)
theorem dX3_count_43 : decode cX3_count 43 = .ok (.aload_n 0, 1) := dk_42 (dk_at dksX3_count_1 20 rfl rfl)
theorem dX3_count_44 : decode cX3_count 44 = .ok (.bipush 95, 2) := dk_16 95 (dk_at dksX3_count_1 21 rfl rfl)
theorem dX3_count_46 : decode cX3_count 46 = .ok (.invokevirtual 472, 3) := dk_182 1 216 (dk_at dksX3_count_2 0 rfl rfl)
theorem dX3_count_49 : decode cX3_count 49 = .ok (.iconst 0, 1) := dk_3 (dk_at dksX3_count_2 3 rfl rfl)
theorem dX3_count_50 : decode cX3_count 50 = .ok (.istore 4, 2) := dk_54 4 (dk_at dksX3_count_2 4 rfl rfl)
theorem dX3_count_52 : decode cX3_count 52 = .ok (.iload 4, 2) := dk_21 4 (dk_at dksX3_count_2 6 rfl rfl)
theorem dX3_count_54 : decode cX3_count 54 = .ok (.aload_n 0, 1) := dk_42 (dk_at dksX3_count_2 8 rfl rfl)
theorem dX3_count_55 : decode cX3_count 55 = .ok (.getfield 449, 3) := dk_180 1 193 (dk_at dksX3_count_2 9 rfl rfl)
theorem dX3_count_58 : decode cX3_count 58 = .ok (.if_icmp .ge 27, 3) := dk_162 0 27 (dk_at dksX3_count_2 12 rfl rfl)
theorem dX3_count_61 : decode cX3_count 61 = .ok (.iload_n 3, 1) := dk_29 (dk_at dksX3_count_2 15 rfl rfl)
theorem dX3_count_62 : decode cX3_count 62 = .ok (.aload_n 0, 1) := dk_42 (dk_at dksX3_count_2 16 rfl rfl)
theorem dX3_count_63 : decode cX3_count 63 = .ok (.getfield 137, 3) := dk_180 0 137 (dk_at dksX3_count_2 17 rfl rfl)
theorem dX3_count_66 : decode cX3_count 66 = .ok (.iload 4, 2) := dk_21 4 (dk_at dksX3_count_2 20 rfl rfl)
theorem dX3_count_68 : decode cX3_count 68 = .ok (.baload, 1) := dk_51 (dk_at dksX3_count_2 22 rfl rfl)
theorem dX3_count_69 : decode cX3_count 69 = .ok (.ifCond .eq 7, 3) := dk_153 0 7 (dk_at dksX3_count_3 0 rfl rfl)
theorem dX3_count_72 : decode cX3_count 72 = .ok (.iconst 1, 1) := dk_4 (dk_at dksX3_count_3 3 rfl rfl)
theorem dX3_count_73 : decode cX3_count 73 = .ok (.goto 4, 3) := dk_167 0 4 (dk_at dksX3_count_3 4 rfl rfl)
theorem dX3_count_76 : decode cX3_count 76 = .ok (.iconst 0, 1) := dk_3 (dk_at dksX3_count_3 7 rfl rfl)
theorem dX3_count_77 : decode cX3_count 77 = .ok (.iadd, 1) := dk_96 (dk_at dksX3_count_3 8 rfl rfl)
theorem dX3_count_78 : decode cX3_count 78 = .ok (.istore_n 3, 1) := dk_62 (dk_at dksX3_count_3 9 rfl rfl)
theorem dX3_count_79 : decode cX3_count 79 = .ok (.iinc 4 1, 3) := dk_132 4 1 (dk_at dksX3_count_3 10 rfl rfl)
theorem dX3_count_82 : decode cX3_count 82 = .ok (.goto (-30), 3) := dk_167 255 226 (dk_at dksX3_count_3 13 rfl rfl)
theorem dX3_count_85 : decode cX3_count 85 = .ok (.iload_n 1, 1) := dk_27 (dk_at dksX3_count_3 16 rfl rfl)
theorem dX3_count_86 : decode cX3_count 86 = .ok (.tableswitch 125 0 12 #[66, 71, 76, 81, 86, 91, 96, 101, 106, 111, 116, 118, 120], 66) := by decide +kernel
theorem dX3_count_152 : decode cX3_count 152 = .ok (.aload_n 0, 1) := dk_42 (dk_at dksX3_count_5 0 rfl rfl)
theorem dX3_count_153 : decode cX3_count 153 = .ok (.getfield 211, 3) := dk_180 0 211 (dk_at dksX3_count_5 1 rfl rfl)
theorem dX3_count_156 : decode cX3_count 156 = .ok (.ireturn, 1) := dk_172 (dk_at dksX3_count_5 4 rfl rfl)
theorem dX3_count_157 : decode cX3_count 157 = .ok (.aload_n 0, 1) := dk_42 (dk_at dksX3_count_5 5 rfl rfl)
theorem dX3_count_158 : decode cX3_count 158 = .ok (.getfield 218, 3) := dk_180 0 218 (dk_at dksX3_count_5 6 rfl rfl)
theorem dX3_count_161 : decode cX3_count 161 = .ok (.ireturn, 1) := dk_172 (dk_at dksX3_count_5 9 rfl rfl)
theorem dX3_count_162 : decode cX3_count 162 = .ok (.aload_n 0, 1) := dk_42 (dk_at dksX3_count_5 10 rfl rfl)
theorem dX3_count_163 : decode cX3_count 163 = .ok (.getfield 221, 3) := dk_180 0 221 (dk_at dksX3_count_5 11 rfl rfl)
theorem dX3_count_166 : decode cX3_count 166 = .ok (.ireturn, 1) := dk_172 (dk_at dksX3_count_5 14 rfl rfl)
theorem dX3_count_167 : decode cX3_count 167 = .ok (.aload_n 0, 1) := dk_42 (dk_at dksX3_count_5 15 rfl rfl)
theorem dX3_count_168 : decode cX3_count 168 = .ok (.getfield 287, 3) := dk_180 1 31 (dk_at dksX3_count_5 16 rfl rfl)
theorem dX3_count_171 : decode cX3_count 171 = .ok (.ireturn, 1) := dk_172 (dk_at dksX3_count_5 19 rfl rfl)
theorem dX3_count_172 : decode cX3_count 172 = .ok (.aload_n 0, 1) := dk_42 (dk_at dksX3_count_5 20 rfl rfl)
theorem dX3_count_173 : decode cX3_count 173 = .ok (.getfield 396, 3) := dk_180 1 140 (dk_at dksX3_count_5 21 rfl rfl)
theorem dX3_count_176 : decode cX3_count 176 = .ok (.ireturn, 1) := dk_172 (dk_at dksX3_count_6 0 rfl rfl)
theorem dX3_count_177 : decode cX3_count 177 = .ok (.aload_n 0, 1) := dk_42 (dk_at dksX3_count_6 1 rfl rfl)
theorem dX3_count_178 : decode cX3_count 178 = .ok (.getfield 432, 3) := dk_180 1 176 (dk_at dksX3_count_6 2 rfl rfl)
theorem dX3_count_181 : decode cX3_count 181 = .ok (.ireturn, 1) := dk_172 (dk_at dksX3_count_6 5 rfl rfl)
theorem dX3_count_182 : decode cX3_count 182 = .ok (.aload_n 0, 1) := dk_42 (dk_at dksX3_count_6 6 rfl rfl)
theorem dX3_count_183 : decode cX3_count 183 = .ok (.getfield 449, 3) := dk_180 1 193 (dk_at dksX3_count_6 7 rfl rfl)
theorem dX3_count_186 : decode cX3_count 186 = .ok (.ireturn, 1) := dk_172 (dk_at dksX3_count_6 10 rfl rfl)
theorem dX3_count_187 : decode cX3_count 187 = .ok (.aload_n 0, 1) := dk_42 (dk_at dksX3_count_6 11 rfl rfl)
theorem dX3_count_188 : decode cX3_count 188 = .ok (.getfield 480, 3) := dk_180 1 224 (dk_at dksX3_count_6 12 rfl rfl)
theorem dX3_count_191 : decode cX3_count 191 = .ok (.ireturn, 1) := dk_172 (dk_at dksX3_count_6 15 rfl rfl)
theorem dX3_count_192 : decode cX3_count 192 = .ok (.aload_n 0, 1) := dk_42 (dk_at dksX3_count_6 16 rfl rfl)
theorem dX3_count_193 : decode cX3_count 193 = .ok (.getfield 429, 3) := dk_180 1 173 (dk_at dksX3_count_6 17 rfl rfl)
theorem dX3_count_196 : decode cX3_count 196 = .ok (.ireturn, 1) := dk_172 (dk_at dksX3_count_6 20 rfl rfl)
theorem dX3_count_197 : decode cX3_count 197 = .ok (.aload_n 0, 1) := dk_42 (dk_at dksX3_count_6 21 rfl rfl)
theorem dX3_count_198 : decode cX3_count 198 = .ok (.getfield 300, 3) := dk_180 1 44 (dk_at dksX3_count_7 0 rfl rfl)
theorem dX3_count_201 : decode cX3_count 201 = .ok (.ireturn, 1) := dk_172 (dk_at dksX3_count_7 3 rfl rfl)
theorem dX3_count_202 : decode cX3_count 202 = .ok (.iload_n 2, 1) := dk_28 (dk_at dksX3_count_7 4 rfl rfl)
theorem dX3_count_203 : decode cX3_count 203 = .ok (.ireturn, 1) := dk_172 (dk_at dksX3_count_7 5 rfl rfl)
theorem dX3_count_204 : decode cX3_count 204 = .ok (.iload_n 3, 1) := dk_29 (dk_at dksX3_count_7 6 rfl rfl)
theorem dX3_count_205 : decode cX3_count 205 = .ok (.ireturn, 1) := dk_172 (dk_at dksX3_count_7 7 rfl rfl)
theorem dX3_count_206 : decode cX3_count 206 = .ok (.aload_n 0, 1) := dk_42 (dk_at dksX3_count_7 8 rfl rfl)
theorem dX3_count_207 : decode cX3_count 207 = .ok (.getfield 303, 3) := dk_180 1 47 (dk_at dksX3_count_7 9 rfl rfl)
theorem dX3_count_210 : decode cX3_count 210 = .ok (.ireturn, 1) := dk_172 (dk_at dksX3_count_7 12 rfl rfl)
theorem dX3_count_211 : decode cX3_count 211 = .ok (.iconst (-1), 1) := dk_2 (dk_at dksX3_count_7 13 rfl rfl)
theorem dX3_count_212 : decode cX3_count 212 = .ok (.ireturn, 1) := dk_172 (dk_at dksX3_count_7 14 rfl rfl)
theorem q109 : (Jvm.Cond.initialized "ValleyGuidesModel") ∈ lw_all := lw_g (lw_at lw_m1 7 rfl) rfl
theorem q395 : (Jvm.Cond.selects "ValleyGuidesModel" ({ cls := "java/lang/Object", name := "getClass", desc := "()Ljava/lang/Class;" } : Jvm.MethodName) ({ cls := "java/lang/Object", name := "getClass", desc := "()Ljava/lang/Class;" } : Jvm.MethodName)) ∈ lw_all := lw_g (lw_at lw_m2 53 rfl) rfl
theorem q1413 : (Jvm.Cond.selects "ValleyGuidesModel" ({ cls := "java/lang/Object", name := "equals", desc := "(Ljava/lang/Object;)Z" } : Jvm.MethodName) ({ cls := "java/lang/Object", name := "equals", desc := "(Ljava/lang/Object;)Z" } : Jvm.MethodName)) ∈ lw_all := lw_g (lw_at lw_m6 111 rfl) rfl
theorem q1693 : (Jvm.Cond.instantiable "ValleyGuidesModel" (90 : Nat)) ∈ lw_all := lw_g (lw_at lw_m7 151 rfl) rfl
theorem q1695 : (Jvm.Cond.instanceMethod ({ cls := "ValleyGuidesModel", name := "<init>", desc := "()V" } : Jvm.MethodName)) ∈ lw_all := lw_g (lw_at lw_m7 153 rfl) rfl
theorem q1696 : (Jvm.Cond.code ({ cls := "ValleyGuidesModel", name := "<init>", desc := "()V" } : Jvm.MethodName) prog_26_method_1_code (2 : Nat) (Option.none : Option Jvm.ClassFile.FieldType)) ∈ lw_all := lw_g (lw_at lw_m7 154 rfl) rfl
theorem q1697 : (Jvm.Cond.methodLink "ValleyGuidesModel" (1 : Nat) ({ cls := "java/lang/Object", name := "<init>", desc := "()V" } : Jvm.MethodName)) ∈ lw_all := lw_g (lw_at lw_m7 155 rfl) rfl
theorem q1698 : (Jvm.Cond.fieldLink "ValleyGuidesModel" (211 : Nat) "ValleyGuidesModel" "places" "I") ∈ lw_all := lw_g (lw_at lw_m7 156 rfl) rfl
theorem q1699 : (Jvm.Cond.fieldLink "ValleyGuidesModel" (7 : Nat) "ValleyGuidesModel" "beds" "[I") ∈ lw_all := lw_g (lw_at lw_m7 157 rfl) rfl
theorem q1700 : (Jvm.Cond.fieldLink "ValleyGuidesModel" (218 : Nat) "ValleyGuidesModel" "steps" "I") ∈ lw_all := lw_g (lw_at lw_m7 158 rfl) rfl
theorem q1701 : (Jvm.Cond.fieldLink "ValleyGuidesModel" (13 : Nat) "ValleyGuidesModel" "sFrom" "[I") ∈ lw_all := lw_g (lw_at lw_m7 159 rfl) rfl
theorem q1702 : (Jvm.Cond.fieldLink "ValleyGuidesModel" (16 : Nat) "ValleyGuidesModel" "sTo" "[I") ∈ lw_all := lw_g (lw_at lw_m7 160 rfl) rfl
theorem q1703 : (Jvm.Cond.fieldLink "ValleyGuidesModel" (19 : Nat) "ValleyGuidesModel" "sorts" "[I") ∈ lw_all := lw_g (lw_at lw_m7 161 rfl) rfl
theorem q1704 : (Jvm.Cond.fieldLink "ValleyGuidesModel" (22 : Nat) "ValleyGuidesModel" "lengths" "[I") ∈ lw_all := lw_g (lw_at lw_m7 162 rfl) rfl
theorem q1705 : (Jvm.Cond.fieldLink "ValleyGuidesModel" (25 : Nat) "ValleyGuidesModel" "hards" "[I") ∈ lw_all := lw_g (lw_at lw_m7 163 rfl) rfl
theorem q1706 : (Jvm.Cond.fieldLink "ValleyGuidesModel" (28 : Nat) "ValleyGuidesModel" "isNarrow" "[Z") ∈ lw_all := lw_g (lw_at lw_m7 164 rfl) rfl
theorem q1707 : (Jvm.Cond.fieldLink "ValleyGuidesModel" (221 : Nat) "ValleyGuidesModel" "routes" "I") ∈ lw_all := lw_g (lw_at lw_m7 165 rfl) rfl
theorem q1708 : (Jvm.Cond.fieldLink "ValleyGuidesModel" (32 : Nat) "ValleyGuidesModel" "rMany" "[I") ∈ lw_all := lw_g (lw_at lw_m7 166 rfl) rfl
theorem q1709 : (Jvm.Cond.fieldLink "ValleyGuidesModel" (35 : Nat) "ValleyGuidesModel" "rSteps" "[I") ∈ lw_all := lw_g (lw_at lw_m7 167 rfl) rfl
theorem q1710 : (Jvm.Cond.fieldLink "ValleyGuidesModel" (38 : Nat) "ValleyGuidesModel" "lanes" "[I") ∈ lw_all := lw_g (lw_at lw_m7 168 rfl) rfl
theorem q1711 : (Jvm.Cond.fieldLink "ValleyGuidesModel" (41 : Nat) "ValleyGuidesModel" "sizes" "[I") ∈ lw_all := lw_g (lw_at lw_m7 169 rfl) rfl
theorem q1712 : (Jvm.Cond.fieldLink "ValleyGuidesModel" (44 : Nat) "ValleyGuidesModel" "cells" "[I") ∈ lw_all := lw_g (lw_at lw_m7 170 rfl) rfl
theorem q1713 : (Jvm.Cond.fieldLink "ValleyGuidesModel" (47 : Nat) "ValleyGuidesModel" "there" "[I") ∈ lw_all := lw_g (lw_at lw_m7 171 rfl) rfl
theorem q1714 : (Jvm.Cond.fieldLink "ValleyGuidesModel" (50 : Nat) "ValleyGuidesModel" "isLeft" "[Z") ∈ lw_all := lw_g (lw_at lw_m7 172 rfl) rfl
theorem q1715 : (Jvm.Cond.fieldLink "ValleyGuidesModel" (287 : Nat) "ValleyGuidesModel" "guides" "I") ∈ lw_all := lw_g (lw_at lw_m7 173 rfl) rfl
theorem q1716 : (Jvm.Cond.fieldLink "ValleyGuidesModel" (53 : Nat) "ValleyGuidesModel" "gGrade" "[I") ∈ lw_all := lw_g (lw_at lw_m7 174 rfl) rfl
theorem q1717 : (Jvm.Cond.fieldLink "ValleyGuidesModel" (56 : Nat) "ValleyGuidesModel" "gStrength" "[I") ∈ lw_all := lw_g (lw_at lw_m7 175 rfl) rfl
theorem q1718 : (Jvm.Cond.fieldLink "ValleyGuidesModel" (59 : Nat) "ValleyGuidesModel" "gPapers" "[I") ∈ lw_all := lw_g (lw_at lw_m7 176 rfl) rfl
theorem q1719 : (Jvm.Cond.fieldLink "ValleyGuidesModel" (62 : Nat) "ValleyGuidesModel" "isOut" "[Z") ∈ lw_all := lw_g (lw_at lw_m7 177 rfl) rfl
theorem q1720 : (Jvm.Cond.fieldLink "ValleyGuidesModel" (65 : Nat) "ValleyGuidesModel" "paid" "[I") ∈ lw_all := lw_g (lw_at lw_m7 178 rfl) rfl
theorem q1721 : (Jvm.Cond.fieldLink "ValleyGuidesModel" (68 : Nat) "ValleyGuidesModel" "given" "[I") ∈ lw_all := lw_g (lw_at lw_m7 179 rfl) rfl
theorem q1722 : (Jvm.Cond.fieldLink "ValleyGuidesModel" (71 : Nat) "ValleyGuidesModel" "order" "[I") ∈ lw_all := lw_g (lw_at lw_m7 180 rfl) rfl
theorem q1723 : (Jvm.Cond.fieldLink "ValleyGuidesModel" (300 : Nat) "ValleyGuidesModel" "today" "I") ∈ lw_all := lw_g (lw_at lw_m7 181 rfl) rfl
theorem q1724 : (Jvm.Cond.fieldLink "ValleyGuidesModel" (429 : Nat) "ValleyGuidesModel" "purse" "I") ∈ lw_all := lw_g (lw_at lw_m7 182 rfl) rfl
theorem q1725 : (Jvm.Cond.fieldLink "ValleyGuidesModel" (74 : Nat) "ValleyGuidesModel" "tape" "[I") ∈ lw_all := lw_g (lw_at lw_m7 183 rfl) rfl
theorem q1726 : (Jvm.Cond.fieldLink "ValleyGuidesModel" (303 : Nat) "ValleyGuidesModel" "taped" "I") ∈ lw_all := lw_g (lw_at lw_m7 184 rfl) rfl
theorem q1727 : (Jvm.Cond.fieldLink "ValleyGuidesModel" (317 : Nat) "ValleyGuidesModel" "pos" "I") ∈ lw_all := lw_g (lw_at lw_m7 185 rfl) rfl
theorem q1728 : (Jvm.Cond.fieldLink "ValleyGuidesModel" (311 : Nat) "ValleyGuidesModel" "from" "I") ∈ lw_all := lw_g (lw_at lw_m7 186 rfl) rfl
theorem q1729 : (Jvm.Cond.fieldLink "ValleyGuidesModel" (335 : Nat) "ValleyGuidesModel" "sort" "I") ∈ lw_all := lw_g (lw_at lw_m7 187 rfl) rfl
theorem q1730 : (Jvm.Cond.fieldLink "ValleyGuidesModel" (345 : Nat) "ValleyGuidesModel" "value" "I") ∈ lw_all := lw_g (lw_at lw_m7 188 rfl) rfl
theorem q1731 : (Jvm.Cond.fieldLink "ValleyGuidesModel" (308 : Nat) "ValleyGuidesModel" "fault" "I") ∈ lw_all := lw_g (lw_at lw_m7 189 rfl) rfl
theorem q1732 : (Jvm.Cond.fieldLink "ValleyGuidesModel" (314 : Nat) "ValleyGuidesModel" "wrongAt" "I") ∈ lw_all := lw_g (lw_at lw_m7 190 rfl) rfl
theorem q1733 : (Jvm.Cond.fieldLink "ValleyGuidesModel" (396 : Nat) "ValleyGuidesModel" "lines" "I") ∈ lw_all := lw_g (lw_at lw_m7 191 rfl) rfl
theorem q1734 : (Jvm.Cond.fieldLink "ValleyGuidesModel" (77 : Nat) "ValleyGuidesModel" "lSort" "[I") ∈ lw_all := lw_g (lw_at lw_m7 192 rfl) rfl
theorem q1735 : (Jvm.Cond.fieldLink "ValleyGuidesModel" (80 : Nat) "ValleyGuidesModel" "lBegin" "[I") ∈ lw_all := lw_g (lw_at lw_m7 193 rfl) rfl
theorem q1736 : (Jvm.Cond.fieldLink "ValleyGuidesModel" (83 : Nat) "ValleyGuidesModel" "codes" "[I") ∈ lw_all := lw_g (lw_at lw_m7 194 rfl) rfl
theorem q1737 : (Jvm.Cond.fieldLink "ValleyGuidesModel" (387 : Nat) "ValleyGuidesModel" "dLines" "I") ∈ lw_all := lw_g (lw_at lw_m7 195 rfl) rfl
theorem q1738 : (Jvm.Cond.fieldLink "ValleyGuidesModel" (86 : Nat) "ValleyGuidesModel" "dSort" "[I") ∈ lw_all := lw_g (lw_at lw_m7 196 rfl) rfl
theorem q1739 : (Jvm.Cond.fieldLink "ValleyGuidesModel" (89 : Nat) "ValleyGuidesModel" "dBegin" "[I") ∈ lw_all := lw_g (lw_at lw_m7 197 rfl) rfl
theorem q1740 : (Jvm.Cond.fieldLink "ValleyGuidesModel" (92 : Nat) "ValleyGuidesModel" "draft" "[I") ∈ lw_all := lw_g (lw_at lw_m7 198 rfl) rfl
theorem q1741 : (Jvm.Cond.fieldLink "ValleyGuidesModel" (356 : Nat) "ValleyGuidesModel" "drafted" "I") ∈ lw_all := lw_g (lw_at lw_m7 199 rfl) rfl
theorem q1742 : (Jvm.Cond.fieldLink "ValleyGuidesModel" (95 : Nat) "ValleyGuidesModel" "waiting" "[I") ∈ lw_all := lw_g (lw_at lw_m7 200 rfl) rfl
theorem q1743 : (Jvm.Cond.fieldLink "ValleyGuidesModel" (359 : Nat) "ValleyGuidesModel" "waitingMany" "I") ∈ lw_all := lw_g (lw_at lw_m7 201 rfl) rfl
theorem q1744 : (Jvm.Cond.fieldLink "ValleyGuidesModel" (98 : Nat) "ValleyGuidesModel" "variables" "[I") ∈ lw_all := lw_g (lw_at lw_m7 202 rfl) rfl
theorem q1745 : (Jvm.Cond.fieldLink "ValleyGuidesModel" (101 : Nat) "ValleyGuidesModel" "stack" "[I") ∈ lw_all := lw_g (lw_at lw_m7 203 rfl) rfl
theorem q1746 : (Jvm.Cond.fieldLink "ValleyGuidesModel" (104 : Nat) "ValleyGuidesModel" "who" "[I") ∈ lw_all := lw_g (lw_at lw_m7 204 rfl) rfl
theorem q1747 : (Jvm.Cond.fieldLink "ValleyGuidesModel" (432 : Nat) "ValleyGuidesModel" "people" "I") ∈ lw_all := lw_g (lw_at lw_m7 205 rfl) rfl
theorem q1748 : (Jvm.Cond.fieldLink "ValleyGuidesModel" (107 : Nat) "ValleyGuidesModel" "strengths" "[I") ∈ lw_all := lw_g (lw_at lw_m7 206 rfl) rfl
theorem q1749 : (Jvm.Cond.fieldLink "ValleyGuidesModel" (110 : Nat) "ValleyGuidesModel" "wishes" "[I") ∈ lw_all := lw_g (lw_at lw_m7 207 rfl) rfl
theorem q1750 : (Jvm.Cond.fieldLink "ValleyGuidesModel" (113 : Nat) "ValleyGuidesModel" "worths" "[I") ∈ lw_all := lw_g (lw_at lw_m7 208 rfl) rfl
theorem q1751 : (Jvm.Cond.fieldLink "ValleyGuidesModel" (116 : Nat) "ValleyGuidesModel" "firsts" "[I") ∈ lw_all := lw_g (lw_at lw_m7 209 rfl) rfl
theorem q1752 : (Jvm.Cond.fieldLink "ValleyGuidesModel" (449 : Nat) "ValleyGuidesModel" "ropes" "I") ∈ lw_all := lw_g (lw_at lw_m7 210 rfl) rfl
theorem q1753 : (Jvm.Cond.fieldLink "ValleyGuidesModel" (119 : Nat) "ValleyGuidesModel" "oRoute" "[I") ∈ lw_all := lw_g (lw_at lw_m7 211 rfl) rfl
theorem q1754 : (Jvm.Cond.fieldLink "ValleyGuidesModel" (122 : Nat) "ValleyGuidesModel" "oStrength" "[I") ∈ lw_all := lw_g (lw_at lw_m7 212 rfl) rfl
theorem q1755 : (Jvm.Cond.fieldLink "ValleyGuidesModel" (125 : Nat) "ValleyGuidesModel" "oStart" "[I") ∈ lw_all := lw_g (lw_at lw_m7 213 rfl) rfl
theorem q1756 : (Jvm.Cond.fieldLink "ValleyGuidesModel" (128 : Nat) "ValleyGuidesModel" "oPeople" "[I") ∈ lw_all := lw_g (lw_at lw_m7 214 rfl) rfl
theorem q1757 : (Jvm.Cond.fieldLink "ValleyGuidesModel" (131 : Nat) "ValleyGuidesModel" "hasBegun" "[Z") ∈ lw_all := lw_g (lw_at lw_m7 215 rfl) rfl
theorem q1758 : (Jvm.Cond.fieldLink "ValleyGuidesModel" (134 : Nat) "ValleyGuidesModel" "isDone" "[Z") ∈ lw_all := lw_g (lw_at lw_m7 216 rfl) rfl
theorem q1759 : (Jvm.Cond.fieldLink "ValleyGuidesModel" (137 : Nat) "ValleyGuidesModel" "hasTurned" "[Z") ∈ lw_all := lw_g (lw_at lw_m7 217 rfl) rfl
theorem q1760 : (Jvm.Cond.fieldLink "ValleyGuidesModel" (140 : Nat) "ValleyGuidesModel" "behind" "[I") ∈ lw_all := lw_g (lw_at lw_m7 218 rfl) rfl
theorem q1761 : (Jvm.Cond.fieldLink "ValleyGuidesModel" (143 : Nat) "ValleyGuidesModel" "place" "[I") ∈ lw_all := lw_g (lw_at lw_m7 219 rfl) rfl
theorem q1762 : (Jvm.Cond.fieldLink "ValleyGuidesModel" (146 : Nat) "ValleyGuidesModel" "cameAt" "[I") ∈ lw_all := lw_g (lw_at lw_m7 220 rfl) rfl
theorem q1763 : (Jvm.Cond.fieldLink "ValleyGuidesModel" (149 : Nat) "ValleyGuidesModel" "until" "[I") ∈ lw_all := lw_g (lw_at lw_m7 221 rfl) rfl
theorem q1764 : (Jvm.Cond.fieldLink "ValleyGuidesModel" (152 : Nat) "ValleyGuidesModel" "doneAt" "[I") ∈ lw_all := lw_g (lw_at lw_m7 222 rfl) rfl
theorem q1765 : (Jvm.Cond.fieldLink "ValleyGuidesModel" (155 : Nat) "ValleyGuidesModel" "waited" "[I") ∈ lw_all := lw_g (lw_at lw_m7 223 rfl) rfl
theorem q1766 : (Jvm.Cond.fieldLink "ValleyGuidesModel" (158 : Nat) "ValleyGuidesModel" "inBeds" "[I") ∈ lw_all := lw_g (lw_at lw_m7 224 rfl) rfl
theorem q1767 : (Jvm.Cond.fieldLink "ValleyGuidesModel" (161 : Nat) "ValleyGuidesModel" "bedsTaken" "[I") ∈ lw_all := lw_g (lw_at lw_m7 225 rfl) rfl
theorem q1768 : (Jvm.Cond.fieldLink "ValleyGuidesModel" (164 : Nat) "ValleyGuidesModel" "lieOut" "[I") ∈ lw_all := lw_g (lw_at lw_m7 226 rfl) rfl
theorem q1769 : (Jvm.Cond.fieldLink "ValleyGuidesModel" (167 : Nat) "ValleyGuidesModel" "comings" "[I") ∈ lw_all := lw_g (lw_at lw_m7 227 rfl) rfl
theorem q1770 : (Jvm.Cond.fieldLink "ValleyGuidesModel" (170 : Nat) "ValleyGuidesModel" "isDecided" "[Z") ∈ lw_all := lw_g (lw_at lw_m7 228 rfl) rfl
theorem q1771 : (Jvm.Cond.fieldLink "ValleyGuidesModel" (480 : Nat) "ValleyGuidesModel" "entries" "I") ∈ lw_all := lw_g (lw_at lw_m7 229 rfl) rfl
theorem q1772 : (Jvm.Cond.fieldLink "ValleyGuidesModel" (173 : Nat) "ValleyGuidesModel" "eRoute" "[I") ∈ lw_all := lw_g (lw_at lw_m7 230 rfl) rfl
theorem q1773 : (Jvm.Cond.fieldLink "ValleyGuidesModel" (176 : Nat) "ValleyGuidesModel" "eGuide" "[I") ∈ lw_all := lw_g (lw_at lw_m7 231 rfl) rfl
theorem q1774 : (Jvm.Cond.fieldLink "ValleyGuidesModel" (179 : Nat) "ValleyGuidesModel" "eQuarters" "[I") ∈ lw_all := lw_g (lw_at lw_m7 232 rfl) rfl
theorem q1775 : (Jvm.Cond.fieldLink "ValleyGuidesModel" (182 : Nat) "ValleyGuidesModel" "lots" "[I") ∈ lw_all := lw_g (lw_at lw_m7 233 rfl) rfl
theorem q1776 : (Jvm.Cond.fieldLink "ValleyGuidesModel" (185 : Nat) "ValleyGuidesModel" "square" "[J") ∈ lw_all := lw_g (lw_at lw_m7 234 rfl) rfl
theorem q1777 : (Jvm.Cond.fieldLink "ValleyGuidesModel" (189 : Nat) "ValleyGuidesModel" "right" "[J") ∈ lw_all := lw_g (lw_at lw_m7 235 rfl) rfl
theorem q1778 : (Jvm.Cond.fieldLink "ValleyGuidesModel" (192 : Nat) "ValleyGuidesModel" "spots" "[I") ∈ lw_all := lw_g (lw_at lw_m7 236 rfl) rfl
theorem q1779 : (Jvm.Cond.fieldLink "ValleyGuidesModel" (483 : Nat) "ValleyGuidesModel" "over" "J") ∈ lw_all := lw_g (lw_at lw_m7 237 rfl) rfl
theorem q1780 : (Jvm.Cond.fieldLink "ValleyGuidesModel" (487 : Nat) "ValleyGuidesModel" "under" "J") ∈ lw_all := lw_g (lw_at lw_m7 238 rfl) rfl
theorem q1781 : (Jvm.Cond.fieldLink "ValleyGuidesModel" (195 : Nat) "ValleyGuidesModel" "iGuides" "I") ∈ lw_all := lw_g (lw_at lw_m7 239 rfl) rfl
theorem q1782 : (Jvm.Cond.fieldLink "ValleyGuidesModel" (199 : Nat) "ValleyGuidesModel" "iOrder" "[I") ∈ lw_all := lw_g (lw_at lw_m8 0 rfl) rfl
theorem q1783 : (Jvm.Cond.fieldLink "ValleyGuidesModel" (202 : Nat) "ValleyGuidesModel" "iOut" "[Z") ∈ lw_all := lw_g (lw_at lw_m8 1 rfl) rfl
theorem q1784 : (Jvm.Cond.fieldLink "ValleyGuidesModel" (205 : Nat) "ValleyGuidesModel" "iPaid" "[I") ∈ lw_all := lw_g (lw_at lw_m8 2 rfl) rfl
theorem q1785 : (Jvm.Cond.fieldLink "ValleyGuidesModel" (208 : Nat) "ValleyGuidesModel" "iGiven" "[I") ∈ lw_all := lw_g (lw_at lw_m8 3 rfl) rfl
theorem q1786 : (Jvm.Cond.fieldLink "ValleyGuidesModel" (514 : Nat) "ValleyGuidesModel" "iToday" "I") ∈ lw_all := lw_g (lw_at lw_m8 4 rfl) rfl
theorem q1787 : (Jvm.Cond.fieldLink "ValleyGuidesModel" (517 : Nat) "ValleyGuidesModel" "iPurse" "I") ∈ lw_all := lw_g (lw_at lw_m8 5 rfl) rfl
theorem q1788 : (Jvm.Cond.lays "ValleyGuidesModel" "ValleyGuidesModel" "places" "I") ∈ lw_all := lw_g (lw_at lw_m8 6 rfl) rfl
theorem q1789 : (Jvm.Cond.soleField "ValleyGuidesModel" "places") ∈ lw_all := lw_g (lw_at lw_m8 7 rfl) rfl
theorem q1790 : (Jvm.Cond.laysFinal "ValleyGuidesModel" "ValleyGuidesModel" "beds" "[I") ∈ lw_all := lw_g (lw_at lw_m8 8 rfl) rfl
theorem q1791 : (Jvm.Cond.soleField "ValleyGuidesModel" "beds") ∈ lw_all := lw_g (lw_at lw_m8 9 rfl) rfl
theorem q1792 : (Jvm.Cond.lays "ValleyGuidesModel" "ValleyGuidesModel" "steps" "I") ∈ lw_all := lw_g (lw_at lw_m8 10 rfl) rfl
theorem q1793 : (Jvm.Cond.soleField "ValleyGuidesModel" "steps") ∈ lw_all := lw_g (lw_at lw_m8 11 rfl) rfl
theorem q1794 : (Jvm.Cond.laysFinal "ValleyGuidesModel" "ValleyGuidesModel" "sFrom" "[I") ∈ lw_all := lw_g (lw_at lw_m8 12 rfl) rfl
theorem q1795 : (Jvm.Cond.soleField "ValleyGuidesModel" "sFrom") ∈ lw_all := lw_g (lw_at lw_m8 13 rfl) rfl
theorem q1796 : (Jvm.Cond.laysFinal "ValleyGuidesModel" "ValleyGuidesModel" "sTo" "[I") ∈ lw_all := lw_g (lw_at lw_m8 14 rfl) rfl
theorem q1797 : (Jvm.Cond.soleField "ValleyGuidesModel" "sTo") ∈ lw_all := lw_g (lw_at lw_m8 15 rfl) rfl
theorem q1798 : (Jvm.Cond.laysFinal "ValleyGuidesModel" "ValleyGuidesModel" "sorts" "[I") ∈ lw_all := lw_g (lw_at lw_m8 16 rfl) rfl
theorem q1799 : (Jvm.Cond.soleField "ValleyGuidesModel" "sorts") ∈ lw_all := lw_g (lw_at lw_m8 17 rfl) rfl
theorem q1800 : (Jvm.Cond.laysFinal "ValleyGuidesModel" "ValleyGuidesModel" "lengths" "[I") ∈ lw_all := lw_g (lw_at lw_m8 18 rfl) rfl
theorem q1801 : (Jvm.Cond.soleField "ValleyGuidesModel" "lengths") ∈ lw_all := lw_g (lw_at lw_m8 19 rfl) rfl
theorem q1802 : (Jvm.Cond.laysFinal "ValleyGuidesModel" "ValleyGuidesModel" "hards" "[I") ∈ lw_all := lw_g (lw_at lw_m8 20 rfl) rfl
theorem q1803 : (Jvm.Cond.soleField "ValleyGuidesModel" "hards") ∈ lw_all := lw_g (lw_at lw_m8 21 rfl) rfl
theorem q1804 : (Jvm.Cond.laysFinal "ValleyGuidesModel" "ValleyGuidesModel" "isNarrow" "[Z") ∈ lw_all := lw_g (lw_at lw_m8 22 rfl) rfl
theorem q1805 : (Jvm.Cond.soleField "ValleyGuidesModel" "isNarrow") ∈ lw_all := lw_g (lw_at lw_m8 23 rfl) rfl
theorem q1806 : (Jvm.Cond.lays "ValleyGuidesModel" "ValleyGuidesModel" "routes" "I") ∈ lw_all := lw_g (lw_at lw_m8 24 rfl) rfl
theorem q1807 : (Jvm.Cond.soleField "ValleyGuidesModel" "routes") ∈ lw_all := lw_g (lw_at lw_m8 25 rfl) rfl
theorem q1808 : (Jvm.Cond.laysFinal "ValleyGuidesModel" "ValleyGuidesModel" "rMany" "[I") ∈ lw_all := lw_g (lw_at lw_m8 26 rfl) rfl
theorem q1809 : (Jvm.Cond.soleField "ValleyGuidesModel" "rMany") ∈ lw_all := lw_g (lw_at lw_m8 27 rfl) rfl
theorem q1810 : (Jvm.Cond.laysFinal "ValleyGuidesModel" "ValleyGuidesModel" "rSteps" "[I") ∈ lw_all := lw_g (lw_at lw_m8 28 rfl) rfl
theorem q1811 : (Jvm.Cond.soleField "ValleyGuidesModel" "rSteps") ∈ lw_all := lw_g (lw_at lw_m8 29 rfl) rfl
theorem q1812 : (Jvm.Cond.laysFinal "ValleyGuidesModel" "ValleyGuidesModel" "lanes" "[I") ∈ lw_all := lw_g (lw_at lw_m8 30 rfl) rfl
theorem q1813 : (Jvm.Cond.soleField "ValleyGuidesModel" "lanes") ∈ lw_all := lw_g (lw_at lw_m8 31 rfl) rfl
theorem q1814 : (Jvm.Cond.laysFinal "ValleyGuidesModel" "ValleyGuidesModel" "sizes" "[I") ∈ lw_all := lw_g (lw_at lw_m8 32 rfl) rfl
theorem q1815 : (Jvm.Cond.soleField "ValleyGuidesModel" "sizes") ∈ lw_all := lw_g (lw_at lw_m8 33 rfl) rfl
theorem q1816 : (Jvm.Cond.laysFinal "ValleyGuidesModel" "ValleyGuidesModel" "cells" "[I") ∈ lw_all := lw_g (lw_at lw_m8 34 rfl) rfl
theorem q1817 : (Jvm.Cond.soleField "ValleyGuidesModel" "cells") ∈ lw_all := lw_g (lw_at lw_m8 35 rfl) rfl
theorem q1818 : (Jvm.Cond.laysFinal "ValleyGuidesModel" "ValleyGuidesModel" "there" "[I") ∈ lw_all := lw_g (lw_at lw_m8 36 rfl) rfl
theorem q1819 : (Jvm.Cond.soleField "ValleyGuidesModel" "there") ∈ lw_all := lw_g (lw_at lw_m8 37 rfl) rfl
theorem q1820 : (Jvm.Cond.laysFinal "ValleyGuidesModel" "ValleyGuidesModel" "isLeft" "[Z") ∈ lw_all := lw_g (lw_at lw_m8 38 rfl) rfl
theorem q1821 : (Jvm.Cond.soleField "ValleyGuidesModel" "isLeft") ∈ lw_all := lw_g (lw_at lw_m8 39 rfl) rfl
theorem q1822 : (Jvm.Cond.lays "ValleyGuidesModel" "ValleyGuidesModel" "guides" "I") ∈ lw_all := lw_g (lw_at lw_m8 40 rfl) rfl
theorem q1823 : (Jvm.Cond.soleField "ValleyGuidesModel" "guides") ∈ lw_all := lw_g (lw_at lw_m8 41 rfl) rfl
theorem q1824 : (Jvm.Cond.laysFinal "ValleyGuidesModel" "ValleyGuidesModel" "gGrade" "[I") ∈ lw_all := lw_g (lw_at lw_m8 42 rfl) rfl
theorem q1825 : (Jvm.Cond.soleField "ValleyGuidesModel" "gGrade") ∈ lw_all := lw_g (lw_at lw_m8 43 rfl) rfl
theorem q1826 : (Jvm.Cond.laysFinal "ValleyGuidesModel" "ValleyGuidesModel" "gStrength" "[I") ∈ lw_all := lw_g (lw_at lw_m8 44 rfl) rfl
theorem q1827 : (Jvm.Cond.soleField "ValleyGuidesModel" "gStrength") ∈ lw_all := lw_g (lw_at lw_m8 45 rfl) rfl
theorem q1828 : (Jvm.Cond.laysFinal "ValleyGuidesModel" "ValleyGuidesModel" "gPapers" "[I") ∈ lw_all := lw_g (lw_at lw_m8 46 rfl) rfl
theorem q1829 : (Jvm.Cond.soleField "ValleyGuidesModel" "gPapers") ∈ lw_all := lw_g (lw_at lw_m8 47 rfl) rfl
theorem q1830 : (Jvm.Cond.laysFinal "ValleyGuidesModel" "ValleyGuidesModel" "isOut" "[Z") ∈ lw_all := lw_g (lw_at lw_m8 48 rfl) rfl
theorem q1831 : (Jvm.Cond.soleField "ValleyGuidesModel" "isOut") ∈ lw_all := lw_g (lw_at lw_m8 49 rfl) rfl
theorem q1832 : (Jvm.Cond.laysFinal "ValleyGuidesModel" "ValleyGuidesModel" "paid" "[I") ∈ lw_all := lw_g (lw_at lw_m8 50 rfl) rfl
theorem q1833 : (Jvm.Cond.soleField "ValleyGuidesModel" "paid") ∈ lw_all := lw_g (lw_at lw_m8 51 rfl) rfl
theorem q1834 : (Jvm.Cond.laysFinal "ValleyGuidesModel" "ValleyGuidesModel" "given" "[I") ∈ lw_all := lw_g (lw_at lw_m8 52 rfl) rfl
theorem q1835 : (Jvm.Cond.soleField "ValleyGuidesModel" "given") ∈ lw_all := lw_g (lw_at lw_m8 53 rfl) rfl
theorem q1836 : (Jvm.Cond.laysFinal "ValleyGuidesModel" "ValleyGuidesModel" "order" "[I") ∈ lw_all := lw_g (lw_at lw_m8 54 rfl) rfl
theorem q1837 : (Jvm.Cond.soleField "ValleyGuidesModel" "order") ∈ lw_all := lw_g (lw_at lw_m8 55 rfl) rfl
theorem q1838 : (Jvm.Cond.lays "ValleyGuidesModel" "ValleyGuidesModel" "today" "I") ∈ lw_all := lw_g (lw_at lw_m8 56 rfl) rfl
theorem q1839 : (Jvm.Cond.soleField "ValleyGuidesModel" "today") ∈ lw_all := lw_g (lw_at lw_m8 57 rfl) rfl
theorem q1840 : (Jvm.Cond.lays "ValleyGuidesModel" "ValleyGuidesModel" "purse" "I") ∈ lw_all := lw_g (lw_at lw_m8 58 rfl) rfl
theorem q1841 : (Jvm.Cond.soleField "ValleyGuidesModel" "purse") ∈ lw_all := lw_g (lw_at lw_m8 59 rfl) rfl
theorem q1842 : (Jvm.Cond.laysFinal "ValleyGuidesModel" "ValleyGuidesModel" "tape" "[I") ∈ lw_all := lw_g (lw_at lw_m8 60 rfl) rfl
theorem q1843 : (Jvm.Cond.soleField "ValleyGuidesModel" "tape") ∈ lw_all := lw_g (lw_at lw_m8 61 rfl) rfl
theorem q1844 : (Jvm.Cond.lays "ValleyGuidesModel" "ValleyGuidesModel" "taped" "I") ∈ lw_all := lw_g (lw_at lw_m8 62 rfl) rfl
theorem q1845 : (Jvm.Cond.soleField "ValleyGuidesModel" "taped") ∈ lw_all := lw_g (lw_at lw_m8 63 rfl) rfl
theorem q1846 : (Jvm.Cond.lays "ValleyGuidesModel" "ValleyGuidesModel" "pos" "I") ∈ lw_all := lw_g (lw_at lw_m8 64 rfl) rfl
theorem q1847 : (Jvm.Cond.soleField "ValleyGuidesModel" "pos") ∈ lw_all := lw_g (lw_at lw_m8 65 rfl) rfl
theorem q1848 : (Jvm.Cond.lays "ValleyGuidesModel" "ValleyGuidesModel" "from" "I") ∈ lw_all := lw_g (lw_at lw_m8 66 rfl) rfl
theorem q1849 : (Jvm.Cond.soleField "ValleyGuidesModel" "from") ∈ lw_all := lw_g (lw_at lw_m8 67 rfl) rfl
theorem q1850 : (Jvm.Cond.lays "ValleyGuidesModel" "ValleyGuidesModel" "sort" "I") ∈ lw_all := lw_g (lw_at lw_m8 68 rfl) rfl
theorem q1851 : (Jvm.Cond.soleField "ValleyGuidesModel" "sort") ∈ lw_all := lw_g (lw_at lw_m8 69 rfl) rfl
theorem q1852 : (Jvm.Cond.lays "ValleyGuidesModel" "ValleyGuidesModel" "value" "I") ∈ lw_all := lw_g (lw_at lw_m8 70 rfl) rfl
theorem q1853 : (Jvm.Cond.soleField "ValleyGuidesModel" "value") ∈ lw_all := lw_g (lw_at lw_m8 71 rfl) rfl
theorem q1854 : (Jvm.Cond.lays "ValleyGuidesModel" "ValleyGuidesModel" "fault" "I") ∈ lw_all := lw_g (lw_at lw_m8 72 rfl) rfl
theorem q1855 : (Jvm.Cond.soleField "ValleyGuidesModel" "fault") ∈ lw_all := lw_g (lw_at lw_m8 73 rfl) rfl
theorem q1856 : (Jvm.Cond.lays "ValleyGuidesModel" "ValleyGuidesModel" "wrongAt" "I") ∈ lw_all := lw_g (lw_at lw_m8 74 rfl) rfl
theorem q1857 : (Jvm.Cond.soleField "ValleyGuidesModel" "wrongAt") ∈ lw_all := lw_g (lw_at lw_m8 75 rfl) rfl
theorem q1858 : (Jvm.Cond.lays "ValleyGuidesModel" "ValleyGuidesModel" "lines" "I") ∈ lw_all := lw_g (lw_at lw_m8 76 rfl) rfl
theorem q1859 : (Jvm.Cond.soleField "ValleyGuidesModel" "lines") ∈ lw_all := lw_g (lw_at lw_m8 77 rfl) rfl
theorem q1860 : (Jvm.Cond.laysFinal "ValleyGuidesModel" "ValleyGuidesModel" "lSort" "[I") ∈ lw_all := lw_g (lw_at lw_m8 78 rfl) rfl
theorem q1861 : (Jvm.Cond.soleField "ValleyGuidesModel" "lSort") ∈ lw_all := lw_g (lw_at lw_m8 79 rfl) rfl
theorem q1862 : (Jvm.Cond.laysFinal "ValleyGuidesModel" "ValleyGuidesModel" "lBegin" "[I") ∈ lw_all := lw_g (lw_at lw_m8 80 rfl) rfl
theorem q1863 : (Jvm.Cond.soleField "ValleyGuidesModel" "lBegin") ∈ lw_all := lw_g (lw_at lw_m8 81 rfl) rfl
theorem q1864 : (Jvm.Cond.laysFinal "ValleyGuidesModel" "ValleyGuidesModel" "codes" "[I") ∈ lw_all := lw_g (lw_at lw_m8 82 rfl) rfl
theorem q1865 : (Jvm.Cond.soleField "ValleyGuidesModel" "codes") ∈ lw_all := lw_g (lw_at lw_m8 83 rfl) rfl
theorem q1866 : (Jvm.Cond.lays "ValleyGuidesModel" "ValleyGuidesModel" "dLines" "I") ∈ lw_all := lw_g (lw_at lw_m8 84 rfl) rfl
theorem q1867 : (Jvm.Cond.soleField "ValleyGuidesModel" "dLines") ∈ lw_all := lw_g (lw_at lw_m8 85 rfl) rfl
theorem q1868 : (Jvm.Cond.laysFinal "ValleyGuidesModel" "ValleyGuidesModel" "dSort" "[I") ∈ lw_all := lw_g (lw_at lw_m8 86 rfl) rfl
theorem q1869 : (Jvm.Cond.soleField "ValleyGuidesModel" "dSort") ∈ lw_all := lw_g (lw_at lw_m8 87 rfl) rfl
theorem q1870 : (Jvm.Cond.laysFinal "ValleyGuidesModel" "ValleyGuidesModel" "dBegin" "[I") ∈ lw_all := lw_g (lw_at lw_m8 88 rfl) rfl
theorem q1871 : (Jvm.Cond.soleField "ValleyGuidesModel" "dBegin") ∈ lw_all := lw_g (lw_at lw_m8 89 rfl) rfl
theorem q1872 : (Jvm.Cond.laysFinal "ValleyGuidesModel" "ValleyGuidesModel" "draft" "[I") ∈ lw_all := lw_g (lw_at lw_m8 90 rfl) rfl
theorem q1873 : (Jvm.Cond.soleField "ValleyGuidesModel" "draft") ∈ lw_all := lw_g (lw_at lw_m8 91 rfl) rfl
theorem q1874 : (Jvm.Cond.lays "ValleyGuidesModel" "ValleyGuidesModel" "drafted" "I") ∈ lw_all := lw_g (lw_at lw_m8 92 rfl) rfl
theorem q1875 : (Jvm.Cond.soleField "ValleyGuidesModel" "drafted") ∈ lw_all := lw_g (lw_at lw_m8 93 rfl) rfl
theorem q1876 : (Jvm.Cond.laysFinal "ValleyGuidesModel" "ValleyGuidesModel" "waiting" "[I") ∈ lw_all := lw_g (lw_at lw_m8 94 rfl) rfl
theorem q1877 : (Jvm.Cond.soleField "ValleyGuidesModel" "waiting") ∈ lw_all := lw_g (lw_at lw_m8 95 rfl) rfl
theorem q1878 : (Jvm.Cond.lays "ValleyGuidesModel" "ValleyGuidesModel" "waitingMany" "I") ∈ lw_all := lw_g (lw_at lw_m8 96 rfl) rfl
theorem q1879 : (Jvm.Cond.soleField "ValleyGuidesModel" "waitingMany") ∈ lw_all := lw_g (lw_at lw_m8 97 rfl) rfl
theorem q1880 : (Jvm.Cond.laysFinal "ValleyGuidesModel" "ValleyGuidesModel" "variables" "[I") ∈ lw_all := lw_g (lw_at lw_m8 98 rfl) rfl
theorem q1881 : (Jvm.Cond.soleField "ValleyGuidesModel" "variables") ∈ lw_all := lw_g (lw_at lw_m8 99 rfl) rfl
theorem q1882 : (Jvm.Cond.laysFinal "ValleyGuidesModel" "ValleyGuidesModel" "stack" "[I") ∈ lw_all := lw_g (lw_at lw_m8 100 rfl) rfl
theorem q1883 : (Jvm.Cond.soleField "ValleyGuidesModel" "stack") ∈ lw_all := lw_g (lw_at lw_m8 101 rfl) rfl
theorem q1884 : (Jvm.Cond.laysFinal "ValleyGuidesModel" "ValleyGuidesModel" "who" "[I") ∈ lw_all := lw_g (lw_at lw_m8 102 rfl) rfl
theorem q1885 : (Jvm.Cond.soleField "ValleyGuidesModel" "who") ∈ lw_all := lw_g (lw_at lw_m8 103 rfl) rfl
theorem q1886 : (Jvm.Cond.lays "ValleyGuidesModel" "ValleyGuidesModel" "people" "I") ∈ lw_all := lw_g (lw_at lw_m8 104 rfl) rfl
theorem q1887 : (Jvm.Cond.soleField "ValleyGuidesModel" "people") ∈ lw_all := lw_g (lw_at lw_m8 105 rfl) rfl
theorem q1888 : (Jvm.Cond.laysFinal "ValleyGuidesModel" "ValleyGuidesModel" "strengths" "[I") ∈ lw_all := lw_g (lw_at lw_m8 106 rfl) rfl
theorem q1889 : (Jvm.Cond.soleField "ValleyGuidesModel" "strengths") ∈ lw_all := lw_g (lw_at lw_m8 107 rfl) rfl
theorem q1890 : (Jvm.Cond.laysFinal "ValleyGuidesModel" "ValleyGuidesModel" "wishes" "[I") ∈ lw_all := lw_g (lw_at lw_m8 108 rfl) rfl
theorem q1891 : (Jvm.Cond.soleField "ValleyGuidesModel" "wishes") ∈ lw_all := lw_g (lw_at lw_m8 109 rfl) rfl
theorem q1892 : (Jvm.Cond.laysFinal "ValleyGuidesModel" "ValleyGuidesModel" "worths" "[I") ∈ lw_all := lw_g (lw_at lw_m8 110 rfl) rfl
theorem q1893 : (Jvm.Cond.soleField "ValleyGuidesModel" "worths") ∈ lw_all := lw_g (lw_at lw_m8 111 rfl) rfl
theorem q1894 : (Jvm.Cond.laysFinal "ValleyGuidesModel" "ValleyGuidesModel" "firsts" "[I") ∈ lw_all := lw_g (lw_at lw_m8 112 rfl) rfl
theorem q1895 : (Jvm.Cond.soleField "ValleyGuidesModel" "firsts") ∈ lw_all := lw_g (lw_at lw_m8 113 rfl) rfl
theorem q1896 : (Jvm.Cond.lays "ValleyGuidesModel" "ValleyGuidesModel" "ropes" "I") ∈ lw_all := lw_g (lw_at lw_m8 114 rfl) rfl
theorem q1897 : (Jvm.Cond.soleField "ValleyGuidesModel" "ropes") ∈ lw_all := lw_g (lw_at lw_m8 115 rfl) rfl
theorem q1898 : (Jvm.Cond.laysFinal "ValleyGuidesModel" "ValleyGuidesModel" "oRoute" "[I") ∈ lw_all := lw_g (lw_at lw_m8 116 rfl) rfl
theorem q1899 : (Jvm.Cond.soleField "ValleyGuidesModel" "oRoute") ∈ lw_all := lw_g (lw_at lw_m8 117 rfl) rfl
theorem q1900 : (Jvm.Cond.laysFinal "ValleyGuidesModel" "ValleyGuidesModel" "oStrength" "[I") ∈ lw_all := lw_g (lw_at lw_m8 118 rfl) rfl
theorem q1901 : (Jvm.Cond.soleField "ValleyGuidesModel" "oStrength") ∈ lw_all := lw_g (lw_at lw_m8 119 rfl) rfl
theorem q1902 : (Jvm.Cond.laysFinal "ValleyGuidesModel" "ValleyGuidesModel" "oStart" "[I") ∈ lw_all := lw_g (lw_at lw_m8 120 rfl) rfl
theorem q1903 : (Jvm.Cond.soleField "ValleyGuidesModel" "oStart") ∈ lw_all := lw_g (lw_at lw_m8 121 rfl) rfl
theorem q1904 : (Jvm.Cond.laysFinal "ValleyGuidesModel" "ValleyGuidesModel" "oPeople" "[I") ∈ lw_all := lw_g (lw_at lw_m8 122 rfl) rfl
theorem q1905 : (Jvm.Cond.soleField "ValleyGuidesModel" "oPeople") ∈ lw_all := lw_g (lw_at lw_m8 123 rfl) rfl
theorem q1906 : (Jvm.Cond.laysFinal "ValleyGuidesModel" "ValleyGuidesModel" "hasBegun" "[Z") ∈ lw_all := lw_g (lw_at lw_m8 124 rfl) rfl
theorem q1907 : (Jvm.Cond.soleField "ValleyGuidesModel" "hasBegun") ∈ lw_all := lw_g (lw_at lw_m8 125 rfl) rfl
theorem q1908 : (Jvm.Cond.laysFinal "ValleyGuidesModel" "ValleyGuidesModel" "isDone" "[Z") ∈ lw_all := lw_g (lw_at lw_m8 126 rfl) rfl
theorem q1909 : (Jvm.Cond.soleField "ValleyGuidesModel" "isDone") ∈ lw_all := lw_g (lw_at lw_m8 127 rfl) rfl
theorem q1910 : (Jvm.Cond.laysFinal "ValleyGuidesModel" "ValleyGuidesModel" "hasTurned" "[Z") ∈ lw_all := lw_g (lw_at lw_m8 128 rfl) rfl
theorem q1911 : (Jvm.Cond.soleField "ValleyGuidesModel" "hasTurned") ∈ lw_all := lw_g (lw_at lw_m8 129 rfl) rfl
theorem q1912 : (Jvm.Cond.laysFinal "ValleyGuidesModel" "ValleyGuidesModel" "behind" "[I") ∈ lw_all := lw_g (lw_at lw_m8 130 rfl) rfl
theorem q1913 : (Jvm.Cond.soleField "ValleyGuidesModel" "behind") ∈ lw_all := lw_g (lw_at lw_m8 131 rfl) rfl
theorem q1914 : (Jvm.Cond.laysFinal "ValleyGuidesModel" "ValleyGuidesModel" "place" "[I") ∈ lw_all := lw_g (lw_at lw_m8 132 rfl) rfl
theorem q1915 : (Jvm.Cond.soleField "ValleyGuidesModel" "place") ∈ lw_all := lw_g (lw_at lw_m8 133 rfl) rfl
theorem q1916 : (Jvm.Cond.laysFinal "ValleyGuidesModel" "ValleyGuidesModel" "cameAt" "[I") ∈ lw_all := lw_g (lw_at lw_m8 134 rfl) rfl
theorem q1917 : (Jvm.Cond.soleField "ValleyGuidesModel" "cameAt") ∈ lw_all := lw_g (lw_at lw_m8 135 rfl) rfl
theorem q1918 : (Jvm.Cond.laysFinal "ValleyGuidesModel" "ValleyGuidesModel" "until" "[I") ∈ lw_all := lw_g (lw_at lw_m8 136 rfl) rfl
theorem q1919 : (Jvm.Cond.soleField "ValleyGuidesModel" "until") ∈ lw_all := lw_g (lw_at lw_m8 137 rfl) rfl
theorem q1920 : (Jvm.Cond.laysFinal "ValleyGuidesModel" "ValleyGuidesModel" "doneAt" "[I") ∈ lw_all := lw_g (lw_at lw_m8 138 rfl) rfl
theorem q1921 : (Jvm.Cond.soleField "ValleyGuidesModel" "doneAt") ∈ lw_all := lw_g (lw_at lw_m8 139 rfl) rfl
theorem q1922 : (Jvm.Cond.laysFinal "ValleyGuidesModel" "ValleyGuidesModel" "waited" "[I") ∈ lw_all := lw_g (lw_at lw_m8 140 rfl) rfl
theorem q1923 : (Jvm.Cond.soleField "ValleyGuidesModel" "waited") ∈ lw_all := lw_g (lw_at lw_m8 141 rfl) rfl
theorem q1924 : (Jvm.Cond.laysFinal "ValleyGuidesModel" "ValleyGuidesModel" "inBeds" "[I") ∈ lw_all := lw_g (lw_at lw_m8 142 rfl) rfl
theorem q1925 : (Jvm.Cond.soleField "ValleyGuidesModel" "inBeds") ∈ lw_all := lw_g (lw_at lw_m8 143 rfl) rfl
theorem q1926 : (Jvm.Cond.laysFinal "ValleyGuidesModel" "ValleyGuidesModel" "bedsTaken" "[I") ∈ lw_all := lw_g (lw_at lw_m8 144 rfl) rfl
theorem q1927 : (Jvm.Cond.soleField "ValleyGuidesModel" "bedsTaken") ∈ lw_all := lw_g (lw_at lw_m8 145 rfl) rfl
theorem q1928 : (Jvm.Cond.laysFinal "ValleyGuidesModel" "ValleyGuidesModel" "lieOut" "[I") ∈ lw_all := lw_g (lw_at lw_m8 146 rfl) rfl
theorem q1929 : (Jvm.Cond.soleField "ValleyGuidesModel" "lieOut") ∈ lw_all := lw_g (lw_at lw_m8 147 rfl) rfl
theorem q1930 : (Jvm.Cond.laysFinal "ValleyGuidesModel" "ValleyGuidesModel" "comings" "[I") ∈ lw_all := lw_g (lw_at lw_m8 148 rfl) rfl
theorem q1931 : (Jvm.Cond.soleField "ValleyGuidesModel" "comings") ∈ lw_all := lw_g (lw_at lw_m8 149 rfl) rfl
theorem q1932 : (Jvm.Cond.laysFinal "ValleyGuidesModel" "ValleyGuidesModel" "isDecided" "[Z") ∈ lw_all := lw_g (lw_at lw_m8 150 rfl) rfl
theorem q1933 : (Jvm.Cond.soleField "ValleyGuidesModel" "isDecided") ∈ lw_all := lw_g (lw_at lw_m8 151 rfl) rfl
theorem q1934 : (Jvm.Cond.lays "ValleyGuidesModel" "ValleyGuidesModel" "entries" "I") ∈ lw_all := lw_g (lw_at lw_m8 152 rfl) rfl
theorem q1935 : (Jvm.Cond.soleField "ValleyGuidesModel" "entries") ∈ lw_all := lw_g (lw_at lw_m8 153 rfl) rfl
theorem q1936 : (Jvm.Cond.laysFinal "ValleyGuidesModel" "ValleyGuidesModel" "eRoute" "[I") ∈ lw_all := lw_g (lw_at lw_m8 154 rfl) rfl
theorem q1937 : (Jvm.Cond.soleField "ValleyGuidesModel" "eRoute") ∈ lw_all := lw_g (lw_at lw_m8 155 rfl) rfl
theorem q1938 : (Jvm.Cond.laysFinal "ValleyGuidesModel" "ValleyGuidesModel" "eGuide" "[I") ∈ lw_all := lw_g (lw_at lw_m8 156 rfl) rfl
theorem q1939 : (Jvm.Cond.soleField "ValleyGuidesModel" "eGuide") ∈ lw_all := lw_g (lw_at lw_m8 157 rfl) rfl
theorem q1940 : (Jvm.Cond.laysFinal "ValleyGuidesModel" "ValleyGuidesModel" "eQuarters" "[I") ∈ lw_all := lw_g (lw_at lw_m8 158 rfl) rfl
theorem q1941 : (Jvm.Cond.soleField "ValleyGuidesModel" "eQuarters") ∈ lw_all := lw_g (lw_at lw_m8 159 rfl) rfl
theorem q1942 : (Jvm.Cond.laysFinal "ValleyGuidesModel" "ValleyGuidesModel" "lots" "[I") ∈ lw_all := lw_g (lw_at lw_m8 160 rfl) rfl
theorem q1943 : (Jvm.Cond.soleField "ValleyGuidesModel" "lots") ∈ lw_all := lw_g (lw_at lw_m8 161 rfl) rfl
theorem q1944 : (Jvm.Cond.laysFinal "ValleyGuidesModel" "ValleyGuidesModel" "square" "[J") ∈ lw_all := lw_g (lw_at lw_m8 162 rfl) rfl
theorem q1945 : (Jvm.Cond.soleField "ValleyGuidesModel" "square") ∈ lw_all := lw_g (lw_at lw_m8 163 rfl) rfl
theorem q1946 : (Jvm.Cond.laysFinal "ValleyGuidesModel" "ValleyGuidesModel" "right" "[J") ∈ lw_all := lw_g (lw_at lw_m8 164 rfl) rfl
theorem q1947 : (Jvm.Cond.soleField "ValleyGuidesModel" "right") ∈ lw_all := lw_g (lw_at lw_m8 165 rfl) rfl
theorem q1948 : (Jvm.Cond.laysFinal "ValleyGuidesModel" "ValleyGuidesModel" "spots" "[I") ∈ lw_all := lw_g (lw_at lw_m8 166 rfl) rfl
theorem q1949 : (Jvm.Cond.soleField "ValleyGuidesModel" "spots") ∈ lw_all := lw_g (lw_at lw_m8 167 rfl) rfl
theorem q1950 : (Jvm.Cond.lays "ValleyGuidesModel" "ValleyGuidesModel" "over" "J") ∈ lw_all := lw_g (lw_at lw_m8 168 rfl) rfl
theorem q1951 : (Jvm.Cond.soleField "ValleyGuidesModel" "over") ∈ lw_all := lw_g (lw_at lw_m8 169 rfl) rfl
theorem q1952 : (Jvm.Cond.lays "ValleyGuidesModel" "ValleyGuidesModel" "under" "J") ∈ lw_all := lw_g (lw_at lw_m8 170 rfl) rfl
theorem q1953 : (Jvm.Cond.soleField "ValleyGuidesModel" "under") ∈ lw_all := lw_g (lw_at lw_m8 171 rfl) rfl
theorem q1954 : (Jvm.Cond.lays "ValleyGuidesModel" "ValleyGuidesModel" "iGuides" "I") ∈ lw_all := lw_g (lw_at lw_m8 172 rfl) rfl
theorem q1955 : (Jvm.Cond.soleField "ValleyGuidesModel" "iGuides") ∈ lw_all := lw_g (lw_at lw_m8 173 rfl) rfl
theorem q1956 : (Jvm.Cond.laysFinal "ValleyGuidesModel" "ValleyGuidesModel" "iOrder" "[I") ∈ lw_all := lw_g (lw_at lw_m8 174 rfl) rfl
theorem q1957 : (Jvm.Cond.soleField "ValleyGuidesModel" "iOrder") ∈ lw_all := lw_g (lw_at lw_m8 175 rfl) rfl
theorem q1958 : (Jvm.Cond.laysFinal "ValleyGuidesModel" "ValleyGuidesModel" "iOut" "[Z") ∈ lw_all := lw_g (lw_at lw_m8 176 rfl) rfl
theorem q1959 : (Jvm.Cond.soleField "ValleyGuidesModel" "iOut") ∈ lw_all := lw_g (lw_at lw_m8 177 rfl) rfl
theorem q1960 : (Jvm.Cond.laysFinal "ValleyGuidesModel" "ValleyGuidesModel" "iPaid" "[I") ∈ lw_all := lw_g (lw_at lw_m8 178 rfl) rfl
theorem q1961 : (Jvm.Cond.soleField "ValleyGuidesModel" "iPaid") ∈ lw_all := lw_g (lw_at lw_m8 179 rfl) rfl
theorem q1962 : (Jvm.Cond.laysFinal "ValleyGuidesModel" "ValleyGuidesModel" "iGiven" "[I") ∈ lw_all := lw_g (lw_at lw_m8 180 rfl) rfl
theorem q1963 : (Jvm.Cond.soleField "ValleyGuidesModel" "iGiven") ∈ lw_all := lw_g (lw_at lw_m8 181 rfl) rfl
theorem q1964 : (Jvm.Cond.lays "ValleyGuidesModel" "ValleyGuidesModel" "iToday" "I") ∈ lw_all := lw_g (lw_at lw_m8 182 rfl) rfl
theorem q1965 : (Jvm.Cond.soleField "ValleyGuidesModel" "iToday") ∈ lw_all := lw_g (lw_at lw_m8 183 rfl) rfl
theorem q1966 : (Jvm.Cond.lays "ValleyGuidesModel" "ValleyGuidesModel" "iPurse" "I") ∈ lw_all := lw_g (lw_at lw_m8 184 rfl) rfl
theorem q1967 : (Jvm.Cond.soleField "ValleyGuidesModel" "iPurse") ∈ lw_all := lw_g (lw_at lw_m8 185 rfl) rfl
theorem q1968 : (Jvm.Cond.superclass "ValleyGuidesModel" "java/lang/Object") ∈ lw_all := lw_g (lw_at lw_m8 186 rfl) rfl
theorem q1970 : (Jvm.Cond.instanceMethod ({ cls := "ValleyGuidesModel", name := "place", desc := "(I)I" } : Jvm.MethodName)) ∈ lw_all := lw_g (lw_at lw_m8 188 rfl) rfl
theorem q1971 : (Jvm.Cond.selects "ValleyGuidesModel" ({ cls := "ValleyGuidesModel", name := "place", desc := "(I)I" } : Jvm.MethodName) ({ cls := "ValleyGuidesModel", name := "place", desc := "(I)I" } : Jvm.MethodName)) ∈ lw_all := lw_g (lw_at lw_m8 189 rfl) rfl
theorem q1972 : (Jvm.Cond.code ({ cls := "ValleyGuidesModel", name := "place", desc := "(I)I" } : Jvm.MethodName) prog_26_method_8_code (2 : Nat) (Option.some Jvm.ClassFile.FieldType.int)) ∈ lw_all := lw_g (lw_at lw_m8 190 rfl) rfl
theorem q1973 : (Jvm.Cond.constantLong "ValleyGuidesModel" (224 : Nat) (9 : Int64)) ∈ lw_all := lw_g (lw_at lw_m8 191 rfl) rfl
theorem q1974 : (Jvm.Cond.methodLink "ValleyGuidesModel" (214 : Nat) ({ cls := "ValleyGuidesModel", name := "in", desc := "(JJJ)Z" } : Jvm.MethodName)) ∈ lw_all := lw_g (lw_at lw_m8 192 rfl) rfl
theorem q1975 : (Jvm.Cond.static ({ cls := "ValleyGuidesModel", name := "in", desc := "(JJJ)Z" } : Jvm.MethodName)) ∈ lw_all := lw_g (lw_at lw_m8 193 rfl) rfl
theorem q1976 : (Jvm.Cond.code ({ cls := "ValleyGuidesModel", name := "in", desc := "(JJJ)Z" } : Jvm.MethodName) prog_26_method_3_code (6 : Nat) (Option.some Jvm.ClassFile.FieldType.boolean)) ∈ lw_all := lw_g (lw_at lw_m8 194 rfl) rfl
theorem q1978 : (Jvm.Cond.instanceMethod ({ cls := "ValleyGuidesModel", name := "step", desc := "(IIIIIZ)I" } : Jvm.MethodName)) ∈ lw_all := lw_g (lw_at lw_m8 196 rfl) rfl
theorem q1979 : (Jvm.Cond.selects "ValleyGuidesModel" ({ cls := "ValleyGuidesModel", name := "step", desc := "(IIIIIZ)I" } : Jvm.MethodName) ({ cls := "ValleyGuidesModel", name := "step", desc := "(IIIIIZ)I" } : Jvm.MethodName)) ∈ lw_all := lw_g (lw_at lw_m8 197 rfl) rfl
theorem q1980 : (Jvm.Cond.code ({ cls := "ValleyGuidesModel", name := "step", desc := "(IIIIIZ)I" } : Jvm.MethodName) prog_26_method_9_code (7 : Nat) (Option.some Jvm.ClassFile.FieldType.int)) ∈ lw_all := lw_g (lw_at lw_m8 198 rfl) rfl
theorem q1981 : (Jvm.Cond.methodLink "ValleyGuidesModel" (226 : Nat) ({ cls := "ValleyGuidesModel", name := "isPlace", desc := "(I)Z" } : Jvm.MethodName)) ∈ lw_all := lw_g (lw_at lw_m8 199 rfl) rfl
theorem q1982 : (Jvm.Cond.privateMethod ({ cls := "ValleyGuidesModel", name := "isPlace", desc := "(I)Z" } : Jvm.MethodName)) ∈ lw_tbl := lw_at lw_m8 200 rfl
theorem q1983 : (Jvm.Cond.instanceMethod ({ cls := "ValleyGuidesModel", name := "isPlace", desc := "(I)Z" } : Jvm.MethodName)) ∈ lw_all := lw_g (lw_at lw_m8 201 rfl) rfl
theorem q1984 : (Jvm.Cond.code ({ cls := "ValleyGuidesModel", name := "isPlace", desc := "(I)Z" } : Jvm.MethodName) prog_26_method_5_code (2 : Nat) (Option.some Jvm.ClassFile.FieldType.boolean)) ∈ lw_all := lw_g (lw_at lw_m8 202 rfl) rfl
theorem q1985 : (Jvm.Cond.constantLong "ValleyGuidesModel" (230 : Nat) (4 : Int64)) ∈ lw_all := lw_g (lw_at lw_m8 203 rfl) rfl
theorem q1986 : (Jvm.Cond.constantLong "ValleyGuidesModel" (232 : Nat) (5 : Int64)) ∈ lw_all := lw_g (lw_at lw_m8 204 rfl) rfl
theorem q1988 : (Jvm.Cond.instanceMethod ({ cls := "ValleyGuidesModel", name := "stepOf", desc := "(II)I" } : Jvm.MethodName)) ∈ lw_all := lw_g (lw_at lw_m8 206 rfl) rfl
theorem q1989 : (Jvm.Cond.selects "ValleyGuidesModel" ({ cls := "ValleyGuidesModel", name := "stepOf", desc := "(II)I" } : Jvm.MethodName) ({ cls := "ValleyGuidesModel", name := "stepOf", desc := "(II)I" } : Jvm.MethodName)) ∈ lw_all := lw_g (lw_at lw_m8 207 rfl) rfl
theorem q1990 : (Jvm.Cond.code ({ cls := "ValleyGuidesModel", name := "stepOf", desc := "(II)I" } : Jvm.MethodName) prog_26_method_10_code (3 : Nat) (Option.some Jvm.ClassFile.FieldType.int)) ∈ lw_all := lw_g (lw_at lw_m8 208 rfl) rfl
theorem q1991 : (Jvm.Cond.methodLink "ValleyGuidesModel" (234 : Nat) ({ cls := "ValleyGuidesModel", name := "isStep", desc := "(I)Z" } : Jvm.MethodName)) ∈ lw_all := lw_g (lw_at lw_m8 209 rfl) rfl
theorem q1992 : (Jvm.Cond.privateMethod ({ cls := "ValleyGuidesModel", name := "isStep", desc := "(I)Z" } : Jvm.MethodName)) ∈ lw_tbl := lw_at lw_m8 210 rfl
theorem q1993 : (Jvm.Cond.instanceMethod ({ cls := "ValleyGuidesModel", name := "isStep", desc := "(I)Z" } : Jvm.MethodName)) ∈ lw_all := lw_g (lw_at lw_m8 211 rfl) rfl
theorem q1994 : (Jvm.Cond.code ({ cls := "ValleyGuidesModel", name := "isStep", desc := "(I)Z" } : Jvm.MethodName) prog_26_method_6_code (2 : Nat) (Option.some Jvm.ClassFile.FieldType.boolean)) ∈ lw_all := lw_g (lw_at lw_m8 212 rfl) rfl
theorem q1996 : (Jvm.Cond.instanceMethod ({ cls := "ValleyGuidesModel", name := "route", desc := "(I)I" } : Jvm.MethodName)) ∈ lw_all := lw_g (lw_at lw_m8 214 rfl) rfl
theorem q1997 : (Jvm.Cond.selects "ValleyGuidesModel" ({ cls := "ValleyGuidesModel", name := "route", desc := "(I)I" } : Jvm.MethodName) ({ cls := "ValleyGuidesModel", name := "route", desc := "(I)I" } : Jvm.MethodName)) ∈ lw_all := lw_g (lw_at lw_m8 215 rfl) rfl
theorem q1998 : (Jvm.Cond.code ({ cls := "ValleyGuidesModel", name := "route", desc := "(I)I" } : Jvm.MethodName) prog_26_method_11_code (2 : Nat) (Option.some Jvm.ClassFile.FieldType.int)) ∈ lw_all := lw_g (lw_at lw_m8 216 rfl) rfl
theorem q2000 : (Jvm.Cond.instanceMethod ({ cls := "ValleyGuidesModel", name := "on", desc := "(II)I" } : Jvm.MethodName)) ∈ lw_all := lw_g (lw_at lw_m8 218 rfl) rfl
theorem q2001 : (Jvm.Cond.selects "ValleyGuidesModel" ({ cls := "ValleyGuidesModel", name := "on", desc := "(II)I" } : Jvm.MethodName) ({ cls := "ValleyGuidesModel", name := "on", desc := "(II)I" } : Jvm.MethodName)) ∈ lw_all := lw_g (lw_at lw_m8 219 rfl) rfl
theorem q2002 : (Jvm.Cond.code ({ cls := "ValleyGuidesModel", name := "on", desc := "(II)I" } : Jvm.MethodName) prog_26_method_14_code (3 : Nat) (Option.some Jvm.ClassFile.FieldType.int)) ∈ lw_all := lw_g (lw_at lw_m8 220 rfl) rfl
theorem q2003 : (Jvm.Cond.methodLink "ValleyGuidesModel" (241 : Nat) ({ cls := "ValleyGuidesModel", name := "isRoute", desc := "(I)Z" } : Jvm.MethodName)) ∈ lw_all := lw_g (lw_at lw_m8 221 rfl) rfl
theorem q2004 : (Jvm.Cond.privateMethod ({ cls := "ValleyGuidesModel", name := "isRoute", desc := "(I)Z" } : Jvm.MethodName)) ∈ lw_tbl := lw_at lw_m8 222 rfl
theorem q2005 : (Jvm.Cond.instanceMethod ({ cls := "ValleyGuidesModel", name := "isRoute", desc := "(I)Z" } : Jvm.MethodName)) ∈ lw_all := lw_g (lw_at lw_m8 223 rfl) rfl
theorem q2006 : (Jvm.Cond.code ({ cls := "ValleyGuidesModel", name := "isRoute", desc := "(I)Z" } : Jvm.MethodName) prog_26_method_7_code (2 : Nat) (Option.some Jvm.ClassFile.FieldType.boolean)) ∈ lw_all := lw_g (lw_at lw_m8 224 rfl) rfl
theorem q2007 : (Jvm.Cond.methodLink "ValleyGuidesModel" (244 : Nat) ({ cls := "ValleyGuidesModel", name := "endOf", desc := "(I)I" } : Jvm.MethodName)) ∈ lw_all := lw_g (lw_at lw_m8 225 rfl) rfl
theorem q2008 : (Jvm.Cond.privateMethod ({ cls := "ValleyGuidesModel", name := "endOf", desc := "(I)I" } : Jvm.MethodName)) ∈ lw_tbl := lw_at lw_m8 226 rfl
theorem q2009 : (Jvm.Cond.instanceMethod ({ cls := "ValleyGuidesModel", name := "endOf", desc := "(I)I" } : Jvm.MethodName)) ∈ lw_all := lw_g (lw_at lw_m8 227 rfl) rfl
theorem q2010 : (Jvm.Cond.code ({ cls := "ValleyGuidesModel", name := "endOf", desc := "(I)I" } : Jvm.MethodName) prog_26_method_13_code (2 : Nat) (Option.some Jvm.ClassFile.FieldType.int)) ∈ lw_all := lw_g (lw_at lw_m8 228 rfl) rfl
theorem q2011 : (Jvm.Cond.methodLink "ValleyGuidesModel" (237 : Nat) ({ cls := "ValleyGuidesModel", name := "stepAt", desc := "(II)I" } : Jvm.MethodName)) ∈ lw_all := lw_g (lw_at lw_m8 229 rfl) rfl
theorem q2012 : (Jvm.Cond.privateMethod ({ cls := "ValleyGuidesModel", name := "stepAt", desc := "(II)I" } : Jvm.MethodName)) ∈ lw_tbl := lw_at lw_m8 230 rfl
theorem q2013 : (Jvm.Cond.instanceMethod ({ cls := "ValleyGuidesModel", name := "stepAt", desc := "(II)I" } : Jvm.MethodName)) ∈ lw_all := lw_g (lw_at lw_m8 231 rfl) rfl
theorem q2014 : (Jvm.Cond.code ({ cls := "ValleyGuidesModel", name := "stepAt", desc := "(II)I" } : Jvm.MethodName) prog_26_method_12_code (3 : Nat) (Option.some Jvm.ClassFile.FieldType.int)) ∈ lw_all := lw_g (lw_at lw_m8 232 rfl) rfl
theorem q2016 : (Jvm.Cond.instanceMethod ({ cls := "ValleyGuidesModel", name := "routeOf", desc := "(II)I" } : Jvm.MethodName)) ∈ lw_all := lw_g (lw_at lw_m8 234 rfl) rfl
theorem q2017 : (Jvm.Cond.selects "ValleyGuidesModel" ({ cls := "ValleyGuidesModel", name := "routeOf", desc := "(II)I" } : Jvm.MethodName) ({ cls := "ValleyGuidesModel", name := "routeOf", desc := "(II)I" } : Jvm.MethodName)) ∈ lw_all := lw_g (lw_at lw_m8 235 rfl) rfl
theorem q2018 : (Jvm.Cond.code ({ cls := "ValleyGuidesModel", name := "routeOf", desc := "(II)I" } : Jvm.MethodName) prog_26_method_18_code (3 : Nat) (Option.some Jvm.ClassFile.FieldType.int)) ∈ lw_all := lw_g (lw_at lw_m8 236 rfl) rfl
theorem q2019 : (Jvm.Cond.constantLong "ValleyGuidesModel" (248 : Nat) (10 : Int64)) ∈ lw_all := lw_g (lw_at lw_m8 237 rfl) rfl
theorem q2020 : (Jvm.Cond.methodLink "ValleyGuidesModel" (250 : Nat) ({ cls := "ValleyGuidesModel", name := "greatestHard", desc := "(I)I" } : Jvm.MethodName)) ∈ lw_all := lw_g (lw_at lw_m8 238 rfl) rfl
theorem q2021 : (Jvm.Cond.privateMethod ({ cls := "ValleyGuidesModel", name := "greatestHard", desc := "(I)I" } : Jvm.MethodName)) ∈ lw_tbl := lw_at lw_m8 239 rfl
theorem q2022 : (Jvm.Cond.instanceMethod ({ cls := "ValleyGuidesModel", name := "greatestHard", desc := "(I)I" } : Jvm.MethodName)) ∈ lw_all := lw_g (lw_at lw_m9 0 rfl) rfl
theorem q2023 : (Jvm.Cond.code ({ cls := "ValleyGuidesModel", name := "greatestHard", desc := "(I)I" } : Jvm.MethodName) prog_26_method_15_code (5 : Nat) (Option.some Jvm.ClassFile.FieldType.int)) ∈ lw_all := lw_g (lw_at lw_m9 1 rfl) rfl
theorem q2024 : (Jvm.Cond.methodLink "ValleyGuidesModel" (253 : Nat) ({ cls := "ValleyGuidesModel", name := "sumHard", desc := "(I)I" } : Jvm.MethodName)) ∈ lw_all := lw_g (lw_at lw_m9 2 rfl) rfl
theorem q2025 : (Jvm.Cond.privateMethod ({ cls := "ValleyGuidesModel", name := "sumHard", desc := "(I)I" } : Jvm.MethodName)) ∈ lw_tbl := lw_at lw_m9 3 rfl
theorem q2026 : (Jvm.Cond.instanceMethod ({ cls := "ValleyGuidesModel", name := "sumHard", desc := "(I)I" } : Jvm.MethodName)) ∈ lw_all := lw_g (lw_at lw_m9 4 rfl) rfl
theorem q2027 : (Jvm.Cond.code ({ cls := "ValleyGuidesModel", name := "sumHard", desc := "(I)I" } : Jvm.MethodName) prog_26_method_16_code (4 : Nat) (Option.some Jvm.ClassFile.FieldType.int)) ∈ lw_all := lw_g (lw_at lw_m9 5 rfl) rfl
theorem q2028 : (Jvm.Cond.methodLink "ValleyGuidesModel" (256 : Nat) ({ cls := "ValleyGuidesModel", name := "sumLength", desc := "(I)I" } : Jvm.MethodName)) ∈ lw_all := lw_g (lw_at lw_m9 6 rfl) rfl
theorem q2029 : (Jvm.Cond.privateMethod ({ cls := "ValleyGuidesModel", name := "sumLength", desc := "(I)I" } : Jvm.MethodName)) ∈ lw_tbl := lw_at lw_m9 7 rfl
theorem q2030 : (Jvm.Cond.instanceMethod ({ cls := "ValleyGuidesModel", name := "sumLength", desc := "(I)I" } : Jvm.MethodName)) ∈ lw_all := lw_g (lw_at lw_m9 8 rfl) rfl
theorem q2031 : (Jvm.Cond.code ({ cls := "ValleyGuidesModel", name := "sumLength", desc := "(I)I" } : Jvm.MethodName) prog_26_method_17_code (4 : Nat) (Option.some Jvm.ClassFile.FieldType.int)) ∈ lw_all := lw_g (lw_at lw_m9 9 rfl) rfl
theorem q2033 : (Jvm.Cond.instanceMethod ({ cls := "ValleyGuidesModel", name := "sheet", desc := "(III)I" } : Jvm.MethodName)) ∈ lw_all := lw_g (lw_at lw_m9 11 rfl) rfl
theorem q2034 : (Jvm.Cond.selects "ValleyGuidesModel" ({ cls := "ValleyGuidesModel", name := "sheet", desc := "(III)I" } : Jvm.MethodName) ({ cls := "ValleyGuidesModel", name := "sheet", desc := "(III)I" } : Jvm.MethodName)) ∈ lw_all := lw_g (lw_at lw_m9 12 rfl) rfl
theorem q2035 : (Jvm.Cond.code ({ cls := "ValleyGuidesModel", name := "sheet", desc := "(III)I" } : Jvm.MethodName) prog_26_method_19_code (5 : Nat) (Option.some Jvm.ClassFile.FieldType.int)) ∈ lw_all := lw_g (lw_at lw_m9 13 rfl) rfl
theorem q2036 : (Jvm.Cond.constantLong "ValleyGuidesModel" (259 : Nat) (3 : Int64)) ∈ lw_all := lw_g (lw_at lw_m9 14 rfl) rfl
theorem q2037 : (Jvm.Cond.constantLong "ValleyGuidesModel" (261 : Nat) (2 : Int64)) ∈ lw_all := lw_g (lw_at lw_m9 15 rfl) rfl
theorem q2039 : (Jvm.Cond.instanceMethod ({ cls := "ValleyGuidesModel", name := "lay", desc := "(III)I" } : Jvm.MethodName)) ∈ lw_all := lw_g (lw_at lw_m9 17 rfl) rfl
theorem q2040 : (Jvm.Cond.selects "ValleyGuidesModel" ({ cls := "ValleyGuidesModel", name := "lay", desc := "(III)I" } : Jvm.MethodName) ({ cls := "ValleyGuidesModel", name := "lay", desc := "(III)I" } : Jvm.MethodName)) ∈ lw_all := lw_g (lw_at lw_m9 18 rfl) rfl
theorem q2041 : (Jvm.Cond.code ({ cls := "ValleyGuidesModel", name := "lay", desc := "(III)I" } : Jvm.MethodName) prog_26_method_20_code (4 : Nat) (Option.some Jvm.ClassFile.FieldType.int)) ∈ lw_all := lw_g (lw_at lw_m9 19 rfl) rfl
theorem q2043 : (Jvm.Cond.instanceMethod ({ cls := "ValleyGuidesModel", name := "tear", desc := "(I)I" } : Jvm.MethodName)) ∈ lw_all := lw_g (lw_at lw_m9 21 rfl) rfl
theorem q2044 : (Jvm.Cond.selects "ValleyGuidesModel" ({ cls := "ValleyGuidesModel", name := "tear", desc := "(I)I" } : Jvm.MethodName) ({ cls := "ValleyGuidesModel", name := "tear", desc := "(I)I" } : Jvm.MethodName)) ∈ lw_all := lw_g (lw_at lw_m9 22 rfl) rfl
theorem q2045 : (Jvm.Cond.code ({ cls := "ValleyGuidesModel", name := "tear", desc := "(I)I" } : Jvm.MethodName) prog_26_method_21_code (3 : Nat) (Option.some Jvm.ClassFile.FieldType.int)) ∈ lw_all := lw_g (lw_at lw_m9 23 rfl) rfl
theorem q2047 : (Jvm.Cond.instanceMethod ({ cls := "ValleyGuidesModel", name := "weather", desc := "(II)I" } : Jvm.MethodName)) ∈ lw_all := lw_g (lw_at lw_m9 25 rfl) rfl
theorem q2048 : (Jvm.Cond.selects "ValleyGuidesModel" ({ cls := "ValleyGuidesModel", name := "weather", desc := "(II)I" } : Jvm.MethodName) ({ cls := "ValleyGuidesModel", name := "weather", desc := "(II)I" } : Jvm.MethodName)) ∈ lw_all := lw_g (lw_at lw_m9 26 rfl) rfl
theorem q2049 : (Jvm.Cond.code ({ cls := "ValleyGuidesModel", name := "weather", desc := "(II)I" } : Jvm.MethodName) prog_26_method_24_code (3 : Nat) (Option.some Jvm.ClassFile.FieldType.int)) ∈ lw_all := lw_g (lw_at lw_m9 27 rfl) rfl
theorem q2050 : (Jvm.Cond.constantLong "ValleyGuidesModel" (270 : Nat) (23 : Int64)) ∈ lw_all := lw_g (lw_at lw_m9 28 rfl) rfl
theorem q2051 : (Jvm.Cond.methodLink "ValleyGuidesModel" (272 : Nat) ({ cls := "ValleyGuidesModel", name := "weatherOf", desc := "(II)I" } : Jvm.MethodName)) ∈ lw_all := lw_g (lw_at lw_m9 29 rfl) rfl
theorem q2052 : (Jvm.Cond.privateMethod ({ cls := "ValleyGuidesModel", name := "weatherOf", desc := "(II)I" } : Jvm.MethodName)) ∈ lw_tbl := lw_at lw_m9 30 rfl
theorem q2053 : (Jvm.Cond.instanceMethod ({ cls := "ValleyGuidesModel", name := "weatherOf", desc := "(II)I" } : Jvm.MethodName)) ∈ lw_all := lw_g (lw_at lw_m9 31 rfl) rfl
theorem q2054 : (Jvm.Cond.code ({ cls := "ValleyGuidesModel", name := "weatherOf", desc := "(II)I" } : Jvm.MethodName) prog_26_method_23_code (4 : Nat) (Option.some Jvm.ClassFile.FieldType.int)) ∈ lw_all := lw_g (lw_at lw_m9 32 rfl) rfl
theorem q2055 : (Jvm.Cond.methodLink "ValleyGuidesModel" (263 : Nat) ({ cls := "ValleyGuidesModel", name := "faultOf", desc := "(II)I" } : Jvm.MethodName)) ∈ lw_all := lw_g (lw_at lw_m9 33 rfl) rfl
theorem q2056 : (Jvm.Cond.privateMethod ({ cls := "ValleyGuidesModel", name := "faultOf", desc := "(II)I" } : Jvm.MethodName)) ∈ lw_tbl := lw_at lw_m9 34 rfl
theorem q2057 : (Jvm.Cond.instanceMethod ({ cls := "ValleyGuidesModel", name := "faultOf", desc := "(II)I" } : Jvm.MethodName)) ∈ lw_all := lw_g (lw_at lw_m9 35 rfl) rfl
theorem q2058 : (Jvm.Cond.code ({ cls := "ValleyGuidesModel", name := "faultOf", desc := "(II)I" } : Jvm.MethodName) prog_26_method_22_code (3 : Nat) (Option.some Jvm.ClassFile.FieldType.int)) ∈ lw_all := lw_g (lw_at lw_m9 36 rfl) rfl
theorem q2059 : (Jvm.Cond.methodLink "ValleyGuidesModel" (266 : Nat) ({ cls := "ValleyGuidesModel", name := "held", desc := "(III)I" } : Jvm.MethodName)) ∈ lw_all := lw_g (lw_at lw_m9 37 rfl) rfl
theorem q2060 : (Jvm.Cond.static ({ cls := "ValleyGuidesModel", name := "held", desc := "(III)I" } : Jvm.MethodName)) ∈ lw_all := lw_g (lw_at lw_m9 38 rfl) rfl
theorem q2061 : (Jvm.Cond.code ({ cls := "ValleyGuidesModel", name := "held", desc := "(III)I" } : Jvm.MethodName) prog_26_method_4_code (3 : Nat) (Option.some Jvm.ClassFile.FieldType.int)) ∈ lw_all := lw_g (lw_at lw_m9 39 rfl) rfl
theorem q2063 : (Jvm.Cond.instanceMethod ({ cls := "ValleyGuidesModel", name := "unknown", desc := "(II)I" } : Jvm.MethodName)) ∈ lw_all := lw_g (lw_at lw_m9 41 rfl) rfl
theorem q2064 : (Jvm.Cond.selects "ValleyGuidesModel" ({ cls := "ValleyGuidesModel", name := "unknown", desc := "(II)I" } : Jvm.MethodName) ({ cls := "ValleyGuidesModel", name := "unknown", desc := "(II)I" } : Jvm.MethodName)) ∈ lw_all := lw_g (lw_at lw_m9 42 rfl) rfl
theorem q2065 : (Jvm.Cond.code ({ cls := "ValleyGuidesModel", name := "unknown", desc := "(II)I" } : Jvm.MethodName) prog_26_method_25_code (3 : Nat) (Option.some Jvm.ClassFile.FieldType.int)) ∈ lw_all := lw_g (lw_at lw_m9 43 rfl) rfl
theorem q2067 : (Jvm.Cond.instanceMethod ({ cls := "ValleyGuidesModel", name := "takes", desc := "(III)I" } : Jvm.MethodName)) ∈ lw_all := lw_g (lw_at lw_m9 45 rfl) rfl
theorem q2068 : (Jvm.Cond.selects "ValleyGuidesModel" ({ cls := "ValleyGuidesModel", name := "takes", desc := "(III)I" } : Jvm.MethodName) ({ cls := "ValleyGuidesModel", name := "takes", desc := "(III)I" } : Jvm.MethodName)) ∈ lw_all := lw_g (lw_at lw_m9 46 rfl) rfl
theorem q2069 : (Jvm.Cond.code ({ cls := "ValleyGuidesModel", name := "takes", desc := "(III)I" } : Jvm.MethodName) prog_26_method_27_code (4 : Nat) (Option.some Jvm.ClassFile.FieldType.int)) ∈ lw_all := lw_g (lw_at lw_m9 47 rfl) rfl
theorem q2070 : (Jvm.Cond.constantLong "ValleyGuidesModel" (275 : Nat) (95 : Int64)) ∈ lw_all := lw_g (lw_at lw_m9 48 rfl) rfl
theorem q2071 : (Jvm.Cond.methodLink "ValleyGuidesModel" (277 : Nat) ({ cls := "ValleyGuidesModel", name := "takesOf", desc := "(III)I" } : Jvm.MethodName)) ∈ lw_all := lw_g (lw_at lw_m9 49 rfl) rfl
theorem q2072 : (Jvm.Cond.privateMethod ({ cls := "ValleyGuidesModel", name := "takesOf", desc := "(III)I" } : Jvm.MethodName)) ∈ lw_tbl := lw_at lw_m9 50 rfl
theorem q2073 : (Jvm.Cond.instanceMethod ({ cls := "ValleyGuidesModel", name := "takesOf", desc := "(III)I" } : Jvm.MethodName)) ∈ lw_all := lw_g (lw_at lw_m9 51 rfl) rfl
theorem q2074 : (Jvm.Cond.code ({ cls := "ValleyGuidesModel", name := "takesOf", desc := "(III)I" } : Jvm.MethodName) prog_26_method_26_code (11 : Nat) (Option.some Jvm.ClassFile.FieldType.int)) ∈ lw_all := lw_g (lw_at lw_m9 52 rfl) rfl
theorem q2076 : (Jvm.Cond.instanceMethod ({ cls := "ValleyGuidesModel", name := "hour", desc := "(III)I" } : Jvm.MethodName)) ∈ lw_all := lw_g (lw_at lw_m9 54 rfl) rfl
theorem q2077 : (Jvm.Cond.selects "ValleyGuidesModel" ({ cls := "ValleyGuidesModel", name := "hour", desc := "(III)I" } : Jvm.MethodName) ({ cls := "ValleyGuidesModel", name := "hour", desc := "(III)I" } : Jvm.MethodName)) ∈ lw_all := lw_g (lw_at lw_m9 55 rfl) rfl
theorem q2078 : (Jvm.Cond.code ({ cls := "ValleyGuidesModel", name := "hour", desc := "(III)I" } : Jvm.MethodName) prog_26_method_29_code (4 : Nat) (Option.some Jvm.ClassFile.FieldType.int)) ∈ lw_all := lw_g (lw_at lw_m9 56 rfl) rfl
theorem q2079 : (Jvm.Cond.methodLink "ValleyGuidesModel" (280 : Nat) ({ cls := "ValleyGuidesModel", name := "hourOf", desc := "(III)I" } : Jvm.MethodName)) ∈ lw_all := lw_g (lw_at lw_m9 57 rfl) rfl
theorem q2080 : (Jvm.Cond.privateMethod ({ cls := "ValleyGuidesModel", name := "hourOf", desc := "(III)I" } : Jvm.MethodName)) ∈ lw_tbl := lw_at lw_m9 58 rfl
theorem q2081 : (Jvm.Cond.instanceMethod ({ cls := "ValleyGuidesModel", name := "hourOf", desc := "(III)I" } : Jvm.MethodName)) ∈ lw_all := lw_g (lw_at lw_m9 59 rfl) rfl
theorem q2082 : (Jvm.Cond.code ({ cls := "ValleyGuidesModel", name := "hourOf", desc := "(III)I" } : Jvm.MethodName) prog_26_method_28_code (7 : Nat) (Option.some Jvm.ClassFile.FieldType.int)) ∈ lw_all := lw_g (lw_at lw_m9 60 rfl) rfl
theorem q2084 : (Jvm.Cond.instanceMethod ({ cls := "ValleyGuidesModel", name := "late", desc := "(III)I" } : Jvm.MethodName)) ∈ lw_all := lw_g (lw_at lw_m9 62 rfl) rfl
theorem q2085 : (Jvm.Cond.selects "ValleyGuidesModel" ({ cls := "ValleyGuidesModel", name := "late", desc := "(III)I" } : Jvm.MethodName) ({ cls := "ValleyGuidesModel", name := "late", desc := "(III)I" } : Jvm.MethodName)) ∈ lw_all := lw_g (lw_at lw_m9 63 rfl) rfl
theorem q2086 : (Jvm.Cond.code ({ cls := "ValleyGuidesModel", name := "late", desc := "(III)I" } : Jvm.MethodName) prog_26_method_30_code (6 : Nat) (Option.some Jvm.ClassFile.FieldType.int)) ∈ lw_all := lw_g (lw_at lw_m9 64 rfl) rfl
theorem q2088 : (Jvm.Cond.instanceMethod ({ cls := "ValleyGuidesModel", name := "way", desc := "(IIII)I" } : Jvm.MethodName)) ∈ lw_all := lw_g (lw_at lw_m9 66 rfl) rfl
theorem q2089 : (Jvm.Cond.selects "ValleyGuidesModel" ({ cls := "ValleyGuidesModel", name := "way", desc := "(IIII)I" } : Jvm.MethodName) ({ cls := "ValleyGuidesModel", name := "way", desc := "(IIII)I" } : Jvm.MethodName)) ∈ lw_all := lw_g (lw_at lw_m9 67 rfl) rfl
theorem q2090 : (Jvm.Cond.code ({ cls := "ValleyGuidesModel", name := "way", desc := "(IIII)I" } : Jvm.MethodName) prog_26_method_32_code (5 : Nat) (Option.some Jvm.ClassFile.FieldType.int)) ∈ lw_all := lw_g (lw_at lw_m9 68 rfl) rfl
theorem q2091 : (Jvm.Cond.methodLink "ValleyGuidesModel" (283 : Nat) ({ cls := "ValleyGuidesModel", name := "wayOf", desc := "(IIII)I" } : Jvm.MethodName)) ∈ lw_all := lw_g (lw_at lw_m9 69 rfl) rfl
theorem q2092 : (Jvm.Cond.privateMethod ({ cls := "ValleyGuidesModel", name := "wayOf", desc := "(IIII)I" } : Jvm.MethodName)) ∈ lw_tbl := lw_at lw_m9 70 rfl
theorem q2093 : (Jvm.Cond.instanceMethod ({ cls := "ValleyGuidesModel", name := "wayOf", desc := "(IIII)I" } : Jvm.MethodName)) ∈ lw_all := lw_g (lw_at lw_m9 71 rfl) rfl
theorem q2094 : (Jvm.Cond.code ({ cls := "ValleyGuidesModel", name := "wayOf", desc := "(IIII)I" } : Jvm.MethodName) prog_26_method_31_code (9 : Nat) (Option.some Jvm.ClassFile.FieldType.int)) ∈ lw_all := lw_g (lw_at lw_m9 72 rfl) rfl
theorem q2096 : (Jvm.Cond.instanceMethod ({ cls := "ValleyGuidesModel", name := "guide", desc := "(III)I" } : Jvm.MethodName)) ∈ lw_all := lw_g (lw_at lw_m9 74 rfl) rfl
theorem q2097 : (Jvm.Cond.selects "ValleyGuidesModel" ({ cls := "ValleyGuidesModel", name := "guide", desc := "(III)I" } : Jvm.MethodName) ({ cls := "ValleyGuidesModel", name := "guide", desc := "(III)I" } : Jvm.MethodName)) ∈ lw_all := lw_g (lw_at lw_m9 75 rfl) rfl
theorem q2098 : (Jvm.Cond.code ({ cls := "ValleyGuidesModel", name := "guide", desc := "(III)I" } : Jvm.MethodName) prog_26_method_34_code (4 : Nat) (Option.some Jvm.ClassFile.FieldType.int)) ∈ lw_all := lw_g (lw_at lw_m9 76 rfl) rfl
theorem q2099 : (Jvm.Cond.constantLong "ValleyGuidesModel" (290 : Nat) (999 : Int64)) ∈ lw_all := lw_g (lw_at lw_m9 77 rfl) rfl
theorem q2101 : (Jvm.Cond.instanceMethod ({ cls := "ValleyGuidesModel", name := "papers", desc := "(II)I" } : Jvm.MethodName)) ∈ lw_all := lw_g (lw_at lw_m9 79 rfl) rfl
theorem q2102 : (Jvm.Cond.selects "ValleyGuidesModel" ({ cls := "ValleyGuidesModel", name := "papers", desc := "(II)I" } : Jvm.MethodName) ({ cls := "ValleyGuidesModel", name := "papers", desc := "(II)I" } : Jvm.MethodName)) ∈ lw_all := lw_g (lw_at lw_m9 80 rfl) rfl
theorem q2103 : (Jvm.Cond.code ({ cls := "ValleyGuidesModel", name := "papers", desc := "(II)I" } : Jvm.MethodName) prog_26_method_35_code (4 : Nat) (Option.some Jvm.ClassFile.FieldType.int)) ∈ lw_all := lw_g (lw_at lw_m9 81 rfl) rfl
theorem q2104 : (Jvm.Cond.methodLink "ValleyGuidesModel" (292 : Nat) ({ cls := "ValleyGuidesModel", name := "isGuide", desc := "(I)Z" } : Jvm.MethodName)) ∈ lw_all := lw_g (lw_at lw_m9 82 rfl) rfl
theorem q2105 : (Jvm.Cond.privateMethod ({ cls := "ValleyGuidesModel", name := "isGuide", desc := "(I)Z" } : Jvm.MethodName)) ∈ lw_tbl := lw_at lw_m9 83 rfl
theorem q2106 : (Jvm.Cond.instanceMethod ({ cls := "ValleyGuidesModel", name := "isGuide", desc := "(I)Z" } : Jvm.MethodName)) ∈ lw_all := lw_g (lw_at lw_m9 84 rfl) rfl
theorem q2107 : (Jvm.Cond.code ({ cls := "ValleyGuidesModel", name := "isGuide", desc := "(I)Z" } : Jvm.MethodName) prog_26_method_33_code (2 : Nat) (Option.some Jvm.ClassFile.FieldType.boolean)) ∈ lw_all := lw_g (lw_at lw_m9 85 rfl) rfl
theorem q2109 : (Jvm.Cond.instanceMethod ({ cls := "ValleyGuidesModel", name := "told", desc := "(II)I" } : Jvm.MethodName)) ∈ lw_all := lw_g (lw_at lw_m9 87 rfl) rfl
theorem q2110 : (Jvm.Cond.selects "ValleyGuidesModel" ({ cls := "ValleyGuidesModel", name := "told", desc := "(II)I" } : Jvm.MethodName) ({ cls := "ValleyGuidesModel", name := "told", desc := "(II)I" } : Jvm.MethodName)) ∈ lw_all := lw_g (lw_at lw_m9 88 rfl) rfl
theorem q2111 : (Jvm.Cond.code ({ cls := "ValleyGuidesModel", name := "told", desc := "(II)I" } : Jvm.MethodName) prog_26_method_37_code (3 : Nat) (Option.some Jvm.ClassFile.FieldType.int)) ∈ lw_all := lw_g (lw_at lw_m9 89 rfl) rfl
theorem q2112 : (Jvm.Cond.constantLong "ValleyGuidesModel" (295 : Nat) (6 : Int64)) ∈ lw_all := lw_g (lw_at lw_m9 90 rfl) rfl
theorem q2113 : (Jvm.Cond.methodLink "ValleyGuidesModel" (297 : Nat) ({ cls := "ValleyGuidesModel", name := "placeInList", desc := "(I)I" } : Jvm.MethodName)) ∈ lw_all := lw_g (lw_at lw_m9 91 rfl) rfl
theorem q2114 : (Jvm.Cond.privateMethod ({ cls := "ValleyGuidesModel", name := "placeInList", desc := "(I)I" } : Jvm.MethodName)) ∈ lw_tbl := lw_at lw_m9 92 rfl
theorem q2115 : (Jvm.Cond.instanceMethod ({ cls := "ValleyGuidesModel", name := "placeInList", desc := "(I)I" } : Jvm.MethodName)) ∈ lw_all := lw_g (lw_at lw_m9 93 rfl) rfl
theorem q2116 : (Jvm.Cond.code ({ cls := "ValleyGuidesModel", name := "placeInList", desc := "(I)I" } : Jvm.MethodName) prog_26_method_36_code (3 : Nat) (Option.some Jvm.ClassFile.FieldType.int)) ∈ lw_all := lw_g (lw_at lw_m9 94 rfl) rfl
theorem q2118 : (Jvm.Cond.instanceMethod ({ cls := "ValleyGuidesModel", name := "list", desc := "(I)I" } : Jvm.MethodName)) ∈ lw_all := lw_g (lw_at lw_m9 96 rfl) rfl
theorem q2119 : (Jvm.Cond.selects "ValleyGuidesModel" ({ cls := "ValleyGuidesModel", name := "list", desc := "(I)I" } : Jvm.MethodName) ({ cls := "ValleyGuidesModel", name := "list", desc := "(I)I" } : Jvm.MethodName)) ∈ lw_all := lw_g (lw_at lw_m9 97 rfl) rfl
theorem q2120 : (Jvm.Cond.code ({ cls := "ValleyGuidesModel", name := "list", desc := "(I)I" } : Jvm.MethodName) prog_26_method_38_code (2 : Nat) (Option.some Jvm.ClassFile.FieldType.int)) ∈ lw_all := lw_g (lw_at lw_m9 98 rfl) rfl
theorem q2122 : (Jvm.Cond.instanceMethod ({ cls := "ValleyGuidesModel", name := "day", desc := "(I)I" } : Jvm.MethodName)) ∈ lw_all := lw_g (lw_at lw_m9 100 rfl) rfl
theorem q2123 : (Jvm.Cond.selects "ValleyGuidesModel" ({ cls := "ValleyGuidesModel", name := "day", desc := "(I)I" } : Jvm.MethodName) ({ cls := "ValleyGuidesModel", name := "day", desc := "(I)I" } : Jvm.MethodName)) ∈ lw_all := lw_g (lw_at lw_m9 101 rfl) rfl
theorem q2124 : (Jvm.Cond.code ({ cls := "ValleyGuidesModel", name := "day", desc := "(I)I" } : Jvm.MethodName) prog_26_method_39_code (4 : Nat) (Option.some Jvm.ClassFile.FieldType.int)) ∈ lw_all := lw_g (lw_at lw_m9 102 rfl) rfl
theorem q2126 : (Jvm.Cond.instanceMethod ({ cls := "ValleyGuidesModel", name := "feed", desc := "(J)I" } : Jvm.MethodName)) ∈ lw_all := lw_g (lw_at lw_m9 104 rfl) rfl
theorem q2127 : (Jvm.Cond.selects "ValleyGuidesModel" ({ cls := "ValleyGuidesModel", name := "feed", desc := "(J)I" } : Jvm.MethodName) ({ cls := "ValleyGuidesModel", name := "feed", desc := "(J)I" } : Jvm.MethodName)) ∈ lw_all := lw_g (lw_at lw_m9 105 rfl) rfl
theorem q2128 : (Jvm.Cond.code ({ cls := "ValleyGuidesModel", name := "feed", desc := "(J)I" } : Jvm.MethodName) prog_26_method_40_code (4 : Nat) (Option.some Jvm.ClassFile.FieldType.int)) ∈ lw_all := lw_g (lw_at lw_m9 106 rfl) rfl
theorem q2129 : (Jvm.Cond.constantLong "ValleyGuidesModel" (306 : Nat) (255 : Int64)) ∈ lw_all := lw_g (lw_at lw_m9 107 rfl) rfl
theorem q2131 : (Jvm.Cond.instanceMethod ({ cls := "ValleyGuidesModel", name := "end", desc := "(I)I" } : Jvm.MethodName)) ∈ lw_all := lw_g (lw_at lw_m9 109 rfl) rfl
theorem q2132 : (Jvm.Cond.selects "ValleyGuidesModel" ({ cls := "ValleyGuidesModel", name := "end", desc := "(I)I" } : Jvm.MethodName) ({ cls := "ValleyGuidesModel", name := "end", desc := "(I)I" } : Jvm.MethodName)) ∈ lw_all := lw_g (lw_at lw_m9 110 rfl) rfl
theorem q2133 : (Jvm.Cond.code ({ cls := "ValleyGuidesModel", name := "end", desc := "(I)I" } : Jvm.MethodName) prog_26_method_41_code (3 : Nat) (Option.some Jvm.ClassFile.FieldType.int)) ∈ lw_all := lw_g (lw_at lw_m9 111 rfl) rfl
theorem q2135 : (Jvm.Cond.instanceMethod ({ cls := "ValleyGuidesModel", name := "text", desc := "()I" } : Jvm.MethodName)) ∈ lw_all := lw_g (lw_at lw_m9 113 rfl) rfl
theorem q2136 : (Jvm.Cond.selects "ValleyGuidesModel" ({ cls := "ValleyGuidesModel", name := "text", desc := "()I" } : Jvm.MethodName) ({ cls := "ValleyGuidesModel", name := "text", desc := "()I" } : Jvm.MethodName)) ∈ lw_all := lw_g (lw_at lw_m9 114 rfl) rfl
theorem q2137 : (Jvm.Cond.code ({ cls := "ValleyGuidesModel", name := "text", desc := "()I" } : Jvm.MethodName) prog_26_method_58_code (2 : Nat) (Option.some Jvm.ClassFile.FieldType.int)) ∈ lw_all := lw_g (lw_at lw_m9 115 rfl) rfl
theorem q2138 : (Jvm.Cond.methodLink "ValleyGuidesModel" (369 : Nat) ({ cls := "ValleyGuidesModel", name := "next", desc := "()V" } : Jvm.MethodName)) ∈ lw_all := lw_g (lw_at lw_m9 116 rfl) rfl
theorem q2139 : (Jvm.Cond.privateMethod ({ cls := "ValleyGuidesModel", name := "next", desc := "()V" } : Jvm.MethodName)) ∈ lw_tbl := lw_at lw_m9 117 rfl
theorem q2140 : (Jvm.Cond.instanceMethod ({ cls := "ValleyGuidesModel", name := "next", desc := "()V" } : Jvm.MethodName)) ∈ lw_all := lw_g (lw_at lw_m9 118 rfl) rfl
theorem q2141 : (Jvm.Cond.code ({ cls := "ValleyGuidesModel", name := "next", desc := "()V" } : Jvm.MethodName) prog_26_method_48_code (2 : Nat) (Option.none : Option Jvm.ClassFile.FieldType)) ∈ lw_all := lw_g (lw_at lw_m9 119 rfl) rfl
theorem q2142 : (Jvm.Cond.methodLink "ValleyGuidesModel" (320 : Nat) ({ cls := "ValleyGuidesModel", name := "look", desc := "(I)I" } : Jvm.MethodName)) ∈ lw_all := lw_g (lw_at lw_m9 120 rfl) rfl
theorem q2143 : (Jvm.Cond.privateMethod ({ cls := "ValleyGuidesModel", name := "look", desc := "(I)I" } : Jvm.MethodName)) ∈ lw_tbl := lw_at lw_m9 121 rfl
theorem q2144 : (Jvm.Cond.instanceMethod ({ cls := "ValleyGuidesModel", name := "look", desc := "(I)I" } : Jvm.MethodName)) ∈ lw_all := lw_g (lw_at lw_m9 122 rfl) rfl
theorem q2145 : (Jvm.Cond.code ({ cls := "ValleyGuidesModel", name := "look", desc := "(I)I" } : Jvm.MethodName) prog_26_method_43_code (2 : Nat) (Option.some Jvm.ClassFile.FieldType.int)) ∈ lw_all := lw_g (lw_at lw_m9 123 rfl) rfl
theorem q2146 : (Jvm.Cond.constantLong "ValleyGuidesModel" (338 : Nat) (97 : Int64)) ∈ lw_all := lw_g (lw_at lw_m9 124 rfl) rfl
theorem q2147 : (Jvm.Cond.constantLong "ValleyGuidesModel" (340 : Nat) (122 : Int64)) ∈ lw_all := lw_g (lw_at lw_m9 125 rfl) rfl
theorem q2148 : (Jvm.Cond.methodLink "ValleyGuidesModel" (342 : Nat) ({ cls := "ValleyGuidesModel", name := "nameNow", desc := "()I" } : Jvm.MethodName)) ∈ lw_all := lw_g (lw_at lw_m9 126 rfl) rfl
theorem q2149 : (Jvm.Cond.privateMethod ({ cls := "ValleyGuidesModel", name := "nameNow", desc := "()I" } : Jvm.MethodName)) ∈ lw_tbl := lw_at lw_m9 127 rfl
theorem q2150 : (Jvm.Cond.instanceMethod ({ cls := "ValleyGuidesModel", name := "nameNow", desc := "()I" } : Jvm.MethodName)) ∈ lw_all := lw_g (lw_at lw_m9 128 rfl) rfl
theorem q2151 : (Jvm.Cond.code ({ cls := "ValleyGuidesModel", name := "nameNow", desc := "()I" } : Jvm.MethodName) prog_26_method_46_code (1 : Nat) (Option.some Jvm.ClassFile.FieldType.int)) ∈ lw_all := lw_g (lw_at lw_m9 129 rfl) rfl
theorem q2152 : (Jvm.Cond.methodLink "ValleyGuidesModel" (323 : Nat) ({ cls := "ValleyGuidesModel", name := "is", desc := "(IIIII)Z" } : Jvm.MethodName)) ∈ lw_all := lw_g (lw_at lw_m9 130 rfl) rfl
theorem q2153 : (Jvm.Cond.privateMethod ({ cls := "ValleyGuidesModel", name := "is", desc := "(IIIII)Z" } : Jvm.MethodName)) ∈ lw_tbl := lw_at lw_m9 131 rfl
theorem q2154 : (Jvm.Cond.instanceMethod ({ cls := "ValleyGuidesModel", name := "is", desc := "(IIIII)Z" } : Jvm.MethodName)) ∈ lw_all := lw_g (lw_at lw_m9 132 rfl) rfl
theorem q2155 : (Jvm.Cond.code ({ cls := "ValleyGuidesModel", name := "is", desc := "(IIIII)Z" } : Jvm.MethodName) prog_26_method_44_code (6 : Nat) (Option.some Jvm.ClassFile.FieldType.boolean)) ∈ lw_all := lw_g (lw_at lw_m9 133 rfl) rfl
theorem q2156 : (Jvm.Cond.methodLink "ValleyGuidesModel" (327 : Nat) ({ cls := "ValleyGuidesModel", name := "variableNow", desc := "()I" } : Jvm.MethodName)) ∈ lw_all := lw_g (lw_at lw_m9 134 rfl) rfl
theorem q2157 : (Jvm.Cond.privateMethod ({ cls := "ValleyGuidesModel", name := "variableNow", desc := "()I" } : Jvm.MethodName)) ∈ lw_tbl := lw_at lw_m9 135 rfl
theorem q2158 : (Jvm.Cond.instanceMethod ({ cls := "ValleyGuidesModel", name := "variableNow", desc := "()I" } : Jvm.MethodName)) ∈ lw_all := lw_g (lw_at lw_m9 136 rfl) rfl
theorem q2159 : (Jvm.Cond.code ({ cls := "ValleyGuidesModel", name := "variableNow", desc := "()I" } : Jvm.MethodName) prog_26_method_47_code (1 : Nat) (Option.some Jvm.ClassFile.FieldType.int)) ∈ lw_all := lw_g (lw_at lw_m9 137 rfl) rfl
theorem q2160 : (Jvm.Cond.methodLink "ValleyGuidesModel" (331 : Nat) ({ cls := "ValleyGuidesModel", name := "goesWith", desc := "(III)Z" } : Jvm.MethodName)) ∈ lw_all := lw_g (lw_at lw_m9 138 rfl) rfl
theorem q2161 : (Jvm.Cond.privateMethod ({ cls := "ValleyGuidesModel", name := "goesWith", desc := "(III)Z" } : Jvm.MethodName)) ∈ lw_tbl := lw_at lw_m9 139 rfl
theorem q2162 : (Jvm.Cond.instanceMethod ({ cls := "ValleyGuidesModel", name := "goesWith", desc := "(III)Z" } : Jvm.MethodName)) ∈ lw_all := lw_g (lw_at lw_m9 140 rfl) rfl
theorem q2163 : (Jvm.Cond.code ({ cls := "ValleyGuidesModel", name := "goesWith", desc := "(III)Z" } : Jvm.MethodName) prog_26_method_45_code (4 : Nat) (Option.some Jvm.ClassFile.FieldType.boolean)) ∈ lw_all := lw_g (lw_at lw_m9 141 rfl) rfl
theorem q2164 : (Jvm.Cond.methodLink "ValleyGuidesModel" (348 : Nat) ({ cls := "ValleyGuidesModel", name := "wants", desc := "(ZI)V" } : Jvm.MethodName)) ∈ lw_all := lw_g (lw_at lw_m9 142 rfl) rfl
theorem q2165 : (Jvm.Cond.privateMethod ({ cls := "ValleyGuidesModel", name := "wants", desc := "(ZI)V" } : Jvm.MethodName)) ∈ lw_tbl := lw_at lw_m9 143 rfl
theorem q2166 : (Jvm.Cond.instanceMethod ({ cls := "ValleyGuidesModel", name := "wants", desc := "(ZI)V" } : Jvm.MethodName)) ∈ lw_all := lw_g (lw_at lw_m9 144 rfl) rfl
theorem q2167 : (Jvm.Cond.code ({ cls := "ValleyGuidesModel", name := "wants", desc := "(ZI)V" } : Jvm.MethodName) prog_26_method_42_code (3 : Nat) (Option.none : Option Jvm.ClassFile.FieldType)) ∈ lw_all := lw_g (lw_at lw_m9 145 rfl) rfl
theorem q2168 : (Jvm.Cond.constantLong "ValleyGuidesModel" (352 : Nat) (48 : Int64)) ∈ lw_all := lw_g (lw_at lw_m9 146 rfl) rfl
theorem q2169 : (Jvm.Cond.constantLong "ValleyGuidesModel" (354 : Nat) (57 : Int64)) ∈ lw_all := lw_g (lw_at lw_m9 147 rfl) rfl
theorem q2170 : (Jvm.Cond.methodLink "ValleyGuidesModel" (393 : Nat) ({ cls := "ValleyGuidesModel", name := "readLine", desc := "()V" } : Jvm.MethodName)) ∈ lw_all := lw_g (lw_at lw_m9 148 rfl) rfl
theorem q2171 : (Jvm.Cond.privateMethod ({ cls := "ValleyGuidesModel", name := "readLine", desc := "()V" } : Jvm.MethodName)) ∈ lw_tbl := lw_at lw_m9 149 rfl
theorem q2172 : (Jvm.Cond.instanceMethod ({ cls := "ValleyGuidesModel", name := "readLine", desc := "()V" } : Jvm.MethodName)) ∈ lw_all := lw_g (lw_at lw_m9 150 rfl) rfl
theorem q2173 : (Jvm.Cond.code ({ cls := "ValleyGuidesModel", name := "readLine", desc := "()V" } : Jvm.MethodName) prog_26_method_57_code (2 : Nat) (Option.none : Option Jvm.ClassFile.FieldType)) ∈ lw_all := lw_g (lw_at lw_m9 151 rfl) rfl
theorem q2174 : (Jvm.Cond.methodLink "ValleyGuidesModel" (381 : Nat) ({ cls := "ValleyGuidesModel", name := "readSum", desc := "()V" } : Jvm.MethodName)) ∈ lw_all := lw_g (lw_at lw_m9 152 rfl) rfl
theorem q2175 : (Jvm.Cond.privateMethod ({ cls := "ValleyGuidesModel", name := "readSum", desc := "()V" } : Jvm.MethodName)) ∈ lw_tbl := lw_at lw_m9 153 rfl
theorem q2176 : (Jvm.Cond.instanceMethod ({ cls := "ValleyGuidesModel", name := "readSum", desc := "()V" } : Jvm.MethodName)) ∈ lw_all := lw_g (lw_at lw_m9 154 rfl) rfl
theorem q2177 : (Jvm.Cond.code ({ cls := "ValleyGuidesModel", name := "readSum", desc := "()V" } : Jvm.MethodName) prog_26_method_53_code (4 : Nat) (Option.none : Option Jvm.ClassFile.FieldType)) ∈ lw_all := lw_g (lw_at lw_m9 155 rfl) rfl
theorem q2178 : (Jvm.Cond.methodLink "ValleyGuidesModel" (362 : Nat) ({ cls := "ValleyGuidesModel", name := "isSign", desc := "(I)Z" } : Jvm.MethodName)) ∈ lw_all := lw_g (lw_at lw_m9 156 rfl) rfl
theorem q2179 : (Jvm.Cond.privateMethod ({ cls := "ValleyGuidesModel", name := "isSign", desc := "(I)Z" } : Jvm.MethodName)) ∈ lw_tbl := lw_at lw_m9 157 rfl
theorem q2180 : (Jvm.Cond.instanceMethod ({ cls := "ValleyGuidesModel", name := "isSign", desc := "(I)Z" } : Jvm.MethodName)) ∈ lw_all := lw_g (lw_at lw_m9 158 rfl) rfl
theorem q2181 : (Jvm.Cond.code ({ cls := "ValleyGuidesModel", name := "isSign", desc := "(I)Z" } : Jvm.MethodName) prog_26_method_49_code (2 : Nat) (Option.some Jvm.ClassFile.FieldType.boolean)) ∈ lw_all := lw_g (lw_at lw_m9 159 rfl) rfl
theorem q2182 : (Jvm.Cond.methodLink "ValleyGuidesModel" (365 : Nat) ({ cls := "ValleyGuidesModel", name := "code", desc := "(I)V" } : Jvm.MethodName)) ∈ lw_all := lw_g (lw_at lw_m9 160 rfl) rfl
theorem q2183 : (Jvm.Cond.privateMethod ({ cls := "ValleyGuidesModel", name := "code", desc := "(I)V" } : Jvm.MethodName)) ∈ lw_tbl := lw_at lw_m9 161 rfl
theorem q2184 : (Jvm.Cond.instanceMethod ({ cls := "ValleyGuidesModel", name := "code", desc := "(I)V" } : Jvm.MethodName)) ∈ lw_all := lw_g (lw_at lw_m9 162 rfl) rfl
theorem q2185 : (Jvm.Cond.code ({ cls := "ValleyGuidesModel", name := "code", desc := "(I)V" } : Jvm.MethodName) prog_26_method_51_code (2 : Nat) (Option.none : Option Jvm.ClassFile.FieldType)) ∈ lw_all := lw_g (lw_at lw_m9 163 rfl) rfl
theorem q2186 : (Jvm.Cond.methodLink "ValleyGuidesModel" (372 : Nat) ({ cls := "ValleyGuidesModel", name := "rank", desc := "(I)I" } : Jvm.MethodName)) ∈ lw_all := lw_g (lw_at lw_m9 164 rfl) rfl
theorem q2187 : (Jvm.Cond.static ({ cls := "ValleyGuidesModel", name := "rank", desc := "(I)I" } : Jvm.MethodName)) ∈ lw_all := lw_g (lw_at lw_m9 165 rfl) rfl
theorem q2188 : (Jvm.Cond.code ({ cls := "ValleyGuidesModel", name := "rank", desc := "(I)I" } : Jvm.MethodName) prog_26_method_52_code (1 : Nat) (Option.some Jvm.ClassFile.FieldType.int)) ∈ lw_all := lw_g (lw_at lw_m9 166 rfl) rfl
theorem q2189 : (Jvm.Cond.methodLink "ValleyGuidesModel" (375 : Nat) ({ cls := "ValleyGuidesModel", name := "pops", desc := "(I)V" } : Jvm.MethodName)) ∈ lw_all := lw_g (lw_at lw_m9 167 rfl) rfl
theorem q2190 : (Jvm.Cond.privateMethod ({ cls := "ValleyGuidesModel", name := "pops", desc := "(I)V" } : Jvm.MethodName)) ∈ lw_tbl := lw_at lw_m9 168 rfl
theorem q2191 : (Jvm.Cond.instanceMethod ({ cls := "ValleyGuidesModel", name := "pops", desc := "(I)V" } : Jvm.MethodName)) ∈ lw_all := lw_g (lw_at lw_m9 169 rfl) rfl
theorem q2192 : (Jvm.Cond.code ({ cls := "ValleyGuidesModel", name := "pops", desc := "(I)V" } : Jvm.MethodName) prog_26_method_54_code (2 : Nat) (Option.none : Option Jvm.ClassFile.FieldType)) ∈ lw_all := lw_g (lw_at lw_m9 170 rfl) rfl
theorem q2193 : (Jvm.Cond.methodLink "ValleyGuidesModel" (390 : Nat) ({ cls := "ValleyGuidesModel", name := "readTest", desc := "()V" } : Jvm.MethodName)) ∈ lw_all := lw_g (lw_at lw_m9 171 rfl) rfl
theorem q2194 : (Jvm.Cond.privateMethod ({ cls := "ValleyGuidesModel", name := "readTest", desc := "()V" } : Jvm.MethodName)) ∈ lw_tbl := lw_at lw_m9 172 rfl
theorem q2195 : (Jvm.Cond.instanceMethod ({ cls := "ValleyGuidesModel", name := "readTest", desc := "()V" } : Jvm.MethodName)) ∈ lw_all := lw_g (lw_at lw_m9 173 rfl) rfl
theorem q2196 : (Jvm.Cond.code ({ cls := "ValleyGuidesModel", name := "readTest", desc := "()V" } : Jvm.MethodName) prog_26_method_56_code (5 : Nat) (Option.none : Option Jvm.ClassFile.FieldType)) ∈ lw_all := lw_g (lw_at lw_m9 174 rfl) rfl
theorem q2197 : (Jvm.Cond.methodLink "ValleyGuidesModel" (384 : Nat) ({ cls := "ValleyGuidesModel", name := "readOne", desc := "()V" } : Jvm.MethodName)) ∈ lw_all := lw_g (lw_at lw_m9 175 rfl) rfl
theorem q2198 : (Jvm.Cond.privateMethod ({ cls := "ValleyGuidesModel", name := "readOne", desc := "()V" } : Jvm.MethodName)) ∈ lw_tbl := lw_at lw_m9 176 rfl
theorem q2199 : (Jvm.Cond.instanceMethod ({ cls := "ValleyGuidesModel", name := "readOne", desc := "()V" } : Jvm.MethodName)) ∈ lw_all := lw_g (lw_at lw_m9 177 rfl) rfl
theorem q2200 : (Jvm.Cond.code ({ cls := "ValleyGuidesModel", name := "readOne", desc := "()V" } : Jvm.MethodName) prog_26_method_55_code (3 : Nat) (Option.none : Option Jvm.ClassFile.FieldType)) ∈ lw_all := lw_g (lw_at lw_m9 178 rfl) rfl
theorem q2201 : (Jvm.Cond.methodLink "ValleyGuidesModel" (378 : Nat) ({ cls := "ValleyGuidesModel", name := "isName", desc := "(I)Z" } : Jvm.MethodName)) ∈ lw_all := lw_g (lw_at lw_m9 179 rfl) rfl
theorem q2202 : (Jvm.Cond.privateMethod ({ cls := "ValleyGuidesModel", name := "isName", desc := "(I)Z" } : Jvm.MethodName)) ∈ lw_tbl := lw_at lw_m9 180 rfl
theorem q2203 : (Jvm.Cond.instanceMethod ({ cls := "ValleyGuidesModel", name := "isName", desc := "(I)Z" } : Jvm.MethodName)) ∈ lw_all := lw_g (lw_at lw_m9 181 rfl) rfl
theorem q2204 : (Jvm.Cond.code ({ cls := "ValleyGuidesModel", name := "isName", desc := "(I)Z" } : Jvm.MethodName) prog_26_method_50_code (2 : Nat) (Option.some Jvm.ClassFile.FieldType.boolean)) ∈ lw_all := lw_g (lw_at lw_m9 182 rfl) rfl
theorem q2206 : (Jvm.Cond.instanceMethod ({ cls := "ValleyGuidesModel", name := "fault", desc := "()I" } : Jvm.MethodName)) ∈ lw_all := lw_g (lw_at lw_m9 184 rfl) rfl
theorem q2207 : (Jvm.Cond.selects "ValleyGuidesModel" ({ cls := "ValleyGuidesModel", name := "fault", desc := "()I" } : Jvm.MethodName) ({ cls := "ValleyGuidesModel", name := "fault", desc := "()I" } : Jvm.MethodName)) ∈ lw_all := lw_g (lw_at lw_m9 185 rfl) rfl
theorem q2208 : (Jvm.Cond.code ({ cls := "ValleyGuidesModel", name := "fault", desc := "()I" } : Jvm.MethodName) prog_26_method_59_code (1 : Nat) (Option.some Jvm.ClassFile.FieldType.int)) ∈ lw_all := lw_g (lw_at lw_m9 186 rfl) rfl
theorem q2210 : (Jvm.Cond.instanceMethod ({ cls := "ValleyGuidesModel", name := "why", desc := "(III)I" } : Jvm.MethodName)) ∈ lw_all := lw_g (lw_at lw_m9 188 rfl) rfl
theorem q2211 : (Jvm.Cond.selects "ValleyGuidesModel" ({ cls := "ValleyGuidesModel", name := "why", desc := "(III)I" } : Jvm.MethodName) ({ cls := "ValleyGuidesModel", name := "why", desc := "(III)I" } : Jvm.MethodName)) ∈ lw_all := lw_g (lw_at lw_m9 189 rfl) rfl
theorem q2212 : (Jvm.Cond.code ({ cls := "ValleyGuidesModel", name := "why", desc := "(III)I" } : Jvm.MethodName) prog_26_method_65_code (4 : Nat) (Option.some Jvm.ClassFile.FieldType.int)) ∈ lw_all := lw_g (lw_at lw_m9 190 rfl) rfl
theorem q2213 : (Jvm.Cond.methodLink "ValleyGuidesModel" (413 : Nat) ({ cls := "ValleyGuidesModel", name := "isAsked", desc := "(III)Z" } : Jvm.MethodName)) ∈ lw_all := lw_g (lw_at lw_m9 191 rfl) rfl
theorem q2214 : (Jvm.Cond.privateMethod ({ cls := "ValleyGuidesModel", name := "isAsked", desc := "(III)Z" } : Jvm.MethodName)) ∈ lw_tbl := lw_at lw_m9 192 rfl
theorem q2215 : (Jvm.Cond.instanceMethod ({ cls := "ValleyGuidesModel", name := "isAsked", desc := "(III)Z" } : Jvm.MethodName)) ∈ lw_all := lw_g (lw_at lw_m9 193 rfl) rfl
theorem q2216 : (Jvm.Cond.code ({ cls := "ValleyGuidesModel", name := "isAsked", desc := "(III)Z" } : Jvm.MethodName) prog_26_method_63_code (4 : Nat) (Option.some Jvm.ClassFile.FieldType.boolean)) ∈ lw_all := lw_g (lw_at lw_m9 194 rfl) rfl
theorem q2217 : (Jvm.Cond.methodLink "ValleyGuidesModel" (406 : Nat) ({ cls := "ValleyGuidesModel", name := "sets", desc := "(III)V" } : Jvm.MethodName)) ∈ lw_all := lw_g (lw_at lw_m9 195 rfl) rfl
theorem q2218 : (Jvm.Cond.privateMethod ({ cls := "ValleyGuidesModel", name := "sets", desc := "(III)V" } : Jvm.MethodName)) ∈ lw_tbl := lw_at lw_m9 196 rfl
theorem q2219 : (Jvm.Cond.instanceMethod ({ cls := "ValleyGuidesModel", name := "sets", desc := "(III)V" } : Jvm.MethodName)) ∈ lw_all := lw_g (lw_at lw_m9 197 rfl) rfl
theorem q2220 : (Jvm.Cond.code ({ cls := "ValleyGuidesModel", name := "sets", desc := "(III)V" } : Jvm.MethodName) prog_26_method_60_code (5 : Nat) (Option.none : Option Jvm.ClassFile.FieldType)) ∈ lw_all := lw_g (lw_at lw_m9 198 rfl) rfl
theorem q2221 : (Jvm.Cond.methodLink "ValleyGuidesModel" (416 : Nat) ({ cls := "ValleyGuidesModel", name := "whyNow", desc := "()I" } : Jvm.MethodName)) ∈ lw_all := lw_g (lw_at lw_m9 199 rfl) rfl
theorem q2222 : (Jvm.Cond.privateMethod ({ cls := "ValleyGuidesModel", name := "whyNow", desc := "()I" } : Jvm.MethodName)) ∈ lw_tbl := lw_at lw_m9 200 rfl
theorem q2223 : (Jvm.Cond.instanceMethod ({ cls := "ValleyGuidesModel", name := "whyNow", desc := "()I" } : Jvm.MethodName)) ∈ lw_all := lw_g (lw_at lw_m9 201 rfl) rfl
theorem q2224 : (Jvm.Cond.code ({ cls := "ValleyGuidesModel", name := "whyNow", desc := "()I" } : Jvm.MethodName) prog_26_method_64_code (2 : Nat) (Option.some Jvm.ClassFile.FieldType.int)) ∈ lw_all := lw_g (lw_at lw_m9 202 rfl) rfl
theorem q2225 : (Jvm.Cond.methodLink "ValleyGuidesModel" (410 : Nat) ({ cls := "ValleyGuidesModel", name := "worked", desc := "(I)I" } : Jvm.MethodName)) ∈ lw_all := lw_g (lw_at lw_m9 203 rfl) rfl
theorem q2226 : (Jvm.Cond.privateMethod ({ cls := "ValleyGuidesModel", name := "worked", desc := "(I)I" } : Jvm.MethodName)) ∈ lw_tbl := lw_at lw_m9 204 rfl
theorem q2227 : (Jvm.Cond.instanceMethod ({ cls := "ValleyGuidesModel", name := "worked", desc := "(I)I" } : Jvm.MethodName)) ∈ lw_all := lw_g (lw_at lw_m9 205 rfl) rfl
theorem q2228 : (Jvm.Cond.code ({ cls := "ValleyGuidesModel", name := "worked", desc := "(I)I" } : Jvm.MethodName) prog_26_method_62_code (10 : Nat) (Option.some Jvm.ClassFile.FieldType.int)) ∈ lw_all := lw_g (lw_at lw_m9 206 rfl) rfl
theorem q2229 : (Jvm.Cond.methodLink "ValleyGuidesModel" (403 : Nat) ({ cls := "ValleyGuidesModel", name := "work", desc := "(III)I" } : Jvm.MethodName)) ∈ lw_all := lw_g (lw_at lw_m9 207 rfl) rfl
theorem q2230 : (Jvm.Cond.static ({ cls := "ValleyGuidesModel", name := "work", desc := "(III)I" } : Jvm.MethodName)) ∈ lw_all := lw_g (lw_at lw_m9 208 rfl) rfl
theorem q2231 : (Jvm.Cond.code ({ cls := "ValleyGuidesModel", name := "work", desc := "(III)I" } : Jvm.MethodName) prog_26_method_61_code (9 : Nat) (Option.some Jvm.ClassFile.FieldType.int)) ∈ lw_all := lw_g (lw_at lw_m9 209 rfl) rfl
theorem q2232 : (Jvm.Cond.constantLong "ValleyGuidesModel" (399 : Nat) (1000000 : Int64)) ∈ lw_all := lw_g (lw_at lw_m9 210 rfl) rfl
theorem q2233 : (Jvm.Cond.constantLong "ValleyGuidesModel" (401 : Nat) (-1000000 : Int64)) ∈ lw_all := lw_g (lw_at lw_m9 211 rfl) rfl
theorem q2235 : (Jvm.Cond.instanceMethod ({ cls := "ValleyGuidesModel", name := "pay", desc := "(III)I" } : Jvm.MethodName)) ∈ lw_all := lw_g (lw_at lw_m9 213 rfl) rfl
theorem q2236 : (Jvm.Cond.selects "ValleyGuidesModel" ({ cls := "ValleyGuidesModel", name := "pay", desc := "(III)I" } : Jvm.MethodName) ({ cls := "ValleyGuidesModel", name := "pay", desc := "(III)I" } : Jvm.MethodName)) ∈ lw_all := lw_g (lw_at lw_m9 214 rfl) rfl
theorem q2237 : (Jvm.Cond.code ({ cls := "ValleyGuidesModel", name := "pay", desc := "(III)I" } : Jvm.MethodName) prog_26_method_67_code (4 : Nat) (Option.some Jvm.ClassFile.FieldType.int)) ∈ lw_all := lw_g (lw_at lw_m9 215 rfl) rfl
theorem q2238 : (Jvm.Cond.methodLink "ValleyGuidesModel" (420 : Nat) ({ cls := "ValleyGuidesModel", name := "payNow", desc := "()I" } : Jvm.MethodName)) ∈ lw_all := lw_g (lw_at lw_m9 216 rfl) rfl
theorem q2239 : (Jvm.Cond.privateMethod ({ cls := "ValleyGuidesModel", name := "payNow", desc := "()I" } : Jvm.MethodName)) ∈ lw_tbl := lw_at lw_m9 217 rfl
theorem q2240 : (Jvm.Cond.instanceMethod ({ cls := "ValleyGuidesModel", name := "payNow", desc := "()I" } : Jvm.MethodName)) ∈ lw_all := lw_g (lw_at lw_m9 218 rfl) rfl
theorem q2241 : (Jvm.Cond.code ({ cls := "ValleyGuidesModel", name := "payNow", desc := "()I" } : Jvm.MethodName) prog_26_method_66_code (3 : Nat) (Option.some Jvm.ClassFile.FieldType.int)) ∈ lw_all := lw_g (lw_at lw_m9 219 rfl) rfl
theorem q2242 : (Jvm.Cond.constant "ValleyGuidesModel" (419 : Nat) (1000000 : Int32)) ∈ lw_all := lw_g (lw_at lw_m9 220 rfl) rfl
theorem q2244 : (Jvm.Cond.instanceMethod ({ cls := "ValleyGuidesModel", name := "asked", desc := "(III)I" } : Jvm.MethodName)) ∈ lw_all := lw_g (lw_at lw_m9 222 rfl) rfl
theorem q2245 : (Jvm.Cond.selects "ValleyGuidesModel" ({ cls := "ValleyGuidesModel", name := "asked", desc := "(III)I" } : Jvm.MethodName) ({ cls := "ValleyGuidesModel", name := "asked", desc := "(III)I" } : Jvm.MethodName)) ∈ lw_all := lw_g (lw_at lw_m9 223 rfl) rfl
theorem q2246 : (Jvm.Cond.code ({ cls := "ValleyGuidesModel", name := "asked", desc := "(III)I" } : Jvm.MethodName) prog_26_method_69_code (4 : Nat) (Option.some Jvm.ClassFile.FieldType.int)) ∈ lw_all := lw_g (lw_at lw_m9 224 rfl) rfl
theorem q2247 : (Jvm.Cond.methodLink "ValleyGuidesModel" (423 : Nat) ({ cls := "ValleyGuidesModel", name := "askedNow", desc := "()I" } : Jvm.MethodName)) ∈ lw_all := lw_g (lw_at lw_m9 225 rfl) rfl
theorem q2248 : (Jvm.Cond.privateMethod ({ cls := "ValleyGuidesModel", name := "askedNow", desc := "()I" } : Jvm.MethodName)) ∈ lw_tbl := lw_at lw_m9 226 rfl
theorem q2249 : (Jvm.Cond.instanceMethod ({ cls := "ValleyGuidesModel", name := "askedNow", desc := "()I" } : Jvm.MethodName)) ∈ lw_all := lw_g (lw_at lw_m9 227 rfl) rfl
theorem q2250 : (Jvm.Cond.code ({ cls := "ValleyGuidesModel", name := "askedNow", desc := "()I" } : Jvm.MethodName) prog_26_method_68_code (4 : Nat) (Option.some Jvm.ClassFile.FieldType.int)) ∈ lw_all := lw_g (lw_at lw_m9 228 rfl) rfl
theorem q2252 : (Jvm.Cond.instanceMethod ({ cls := "ValleyGuidesModel", name := "turn", desc := "(IIII)I" } : Jvm.MethodName)) ∈ lw_all := lw_g (lw_at lw_m9 230 rfl) rfl
theorem q2253 : (Jvm.Cond.selects "ValleyGuidesModel" ({ cls := "ValleyGuidesModel", name := "turn", desc := "(IIII)I" } : Jvm.MethodName) ({ cls := "ValleyGuidesModel", name := "turn", desc := "(IIII)I" } : Jvm.MethodName)) ∈ lw_all := lw_g (lw_at lw_m9 231 rfl) rfl
theorem q2254 : (Jvm.Cond.code ({ cls := "ValleyGuidesModel", name := "turn", desc := "(IIII)I" } : Jvm.MethodName) prog_26_method_71_code (6 : Nat) (Option.some Jvm.ClassFile.FieldType.int)) ∈ lw_all := lw_g (lw_at lw_m9 232 rfl) rfl
theorem q2255 : (Jvm.Cond.methodLink "ValleyGuidesModel" (426 : Nat) ({ cls := "ValleyGuidesModel", name := "findTurn", desc := "()I" } : Jvm.MethodName)) ∈ lw_all := lw_g (lw_at lw_m9 233 rfl) rfl
theorem q2256 : (Jvm.Cond.privateMethod ({ cls := "ValleyGuidesModel", name := "findTurn", desc := "()I" } : Jvm.MethodName)) ∈ lw_tbl := lw_at lw_m9 234 rfl
theorem q2257 : (Jvm.Cond.instanceMethod ({ cls := "ValleyGuidesModel", name := "findTurn", desc := "()I" } : Jvm.MethodName)) ∈ lw_all := lw_g (lw_at lw_m9 235 rfl) rfl
theorem q2258 : (Jvm.Cond.code ({ cls := "ValleyGuidesModel", name := "findTurn", desc := "()I" } : Jvm.MethodName) prog_26_method_70_code (5 : Nat) (Option.some Jvm.ClassFile.FieldType.int)) ∈ lw_all := lw_g (lw_at lw_m9 236 rfl) rfl
theorem q2260 : (Jvm.Cond.instanceMethod ({ cls := "ValleyGuidesModel", name := "go", desc := "(III)I" } : Jvm.MethodName)) ∈ lw_all := lw_g (lw_at lw_m9 238 rfl) rfl
theorem q2261 : (Jvm.Cond.selects "ValleyGuidesModel" ({ cls := "ValleyGuidesModel", name := "go", desc := "(III)I" } : Jvm.MethodName) ({ cls := "ValleyGuidesModel", name := "go", desc := "(III)I" } : Jvm.MethodName)) ∈ lw_all := lw_g (lw_at lw_m9 239 rfl) rfl
theorem q2262 : (Jvm.Cond.code ({ cls := "ValleyGuidesModel", name := "go", desc := "(III)I" } : Jvm.MethodName) prog_26_method_72_code (9 : Nat) (Option.some Jvm.ClassFile.FieldType.int)) ∈ lw_all := lw_g (lw_at lw_m10 0 rfl) rfl
theorem q2264 : (Jvm.Cond.instanceMethod ({ cls := "ValleyGuidesModel", name := "person", desc := "(I)I" } : Jvm.MethodName)) ∈ lw_all := lw_g (lw_at lw_m10 2 rfl) rfl
theorem q2265 : (Jvm.Cond.selects "ValleyGuidesModel" ({ cls := "ValleyGuidesModel", name := "person", desc := "(I)I" } : Jvm.MethodName) ({ cls := "ValleyGuidesModel", name := "person", desc := "(I)I" } : Jvm.MethodName)) ∈ lw_all := lw_g (lw_at lw_m10 3 rfl) rfl
theorem q2266 : (Jvm.Cond.code ({ cls := "ValleyGuidesModel", name := "person", desc := "(I)I" } : Jvm.MethodName) prog_26_method_73_code (3 : Nat) (Option.some Jvm.ClassFile.FieldType.int)) ∈ lw_all := lw_g (lw_at lw_m10 4 rfl) rfl
theorem q2268 : (Jvm.Cond.instanceMethod ({ cls := "ValleyGuidesModel", name := "wish", desc := "(III)I" } : Jvm.MethodName)) ∈ lw_all := lw_g (lw_at lw_m10 6 rfl) rfl
theorem q2269 : (Jvm.Cond.selects "ValleyGuidesModel" ({ cls := "ValleyGuidesModel", name := "wish", desc := "(III)I" } : Jvm.MethodName) ({ cls := "ValleyGuidesModel", name := "wish", desc := "(III)I" } : Jvm.MethodName)) ∈ lw_all := lw_g (lw_at lw_m10 7 rfl) rfl
theorem q2270 : (Jvm.Cond.code ({ cls := "ValleyGuidesModel", name := "wish", desc := "(III)I" } : Jvm.MethodName) prog_26_method_74_code (5 : Nat) (Option.some Jvm.ClassFile.FieldType.int)) ∈ lw_all := lw_g (lw_at lw_m10 8 rfl) rfl
theorem q2271 : (Jvm.Cond.constantLong "ValleyGuidesModel" (435 : Nat) (-9 : Int64)) ∈ lw_all := lw_g (lw_at lw_m10 9 rfl) rfl
theorem q2273 : (Jvm.Cond.instanceMethod ({ cls := "ValleyGuidesModel", name := "roping", desc := "(II)I" } : Jvm.MethodName)) ∈ lw_all := lw_g (lw_at lw_m10 11 rfl) rfl
theorem q2274 : (Jvm.Cond.selects "ValleyGuidesModel" ({ cls := "ValleyGuidesModel", name := "roping", desc := "(II)I" } : Jvm.MethodName) ({ cls := "ValleyGuidesModel", name := "roping", desc := "(II)I" } : Jvm.MethodName)) ∈ lw_all := lw_g (lw_at lw_m10 12 rfl) rfl
theorem q2275 : (Jvm.Cond.code ({ cls := "ValleyGuidesModel", name := "roping", desc := "(II)I" } : Jvm.MethodName) prog_26_method_78_code (7 : Nat) (Option.some Jvm.ClassFile.FieldType.int)) ∈ lw_all := lw_g (lw_at lw_m10 13 rfl) rfl
theorem q2276 : (Jvm.Cond.constantLong "ValleyGuidesModel" (444 : Nat) (30 : Int64)) ∈ lw_all := lw_g (lw_at lw_m10 14 rfl) rfl
theorem q2277 : (Jvm.Cond.methodLink "ValleyGuidesModel" (446 : Nat) ({ cls := "ValleyGuidesModel", name := "findRoping", desc := "(I)V" } : Jvm.MethodName)) ∈ lw_all := lw_g (lw_at lw_m10 15 rfl) rfl
theorem q2278 : (Jvm.Cond.privateMethod ({ cls := "ValleyGuidesModel", name := "findRoping", desc := "(I)V" } : Jvm.MethodName)) ∈ lw_tbl := lw_at lw_m10 16 rfl
theorem q2279 : (Jvm.Cond.instanceMethod ({ cls := "ValleyGuidesModel", name := "findRoping", desc := "(I)V" } : Jvm.MethodName)) ∈ lw_all := lw_g (lw_at lw_m10 17 rfl) rfl
theorem q2280 : (Jvm.Cond.code ({ cls := "ValleyGuidesModel", name := "findRoping", desc := "(I)V" } : Jvm.MethodName) prog_26_method_77_code (7 : Nat) (Option.none : Option Jvm.ClassFile.FieldType)) ∈ lw_all := lw_g (lw_at lw_m10 18 rfl) rfl
theorem q2281 : (Jvm.Cond.constant "ValleyGuidesModel" (440 : Nat) (-100000 : Int32)) ∈ lw_all := lw_g (lw_at lw_m10 19 rfl) rfl
theorem q2282 : (Jvm.Cond.methodLink "ValleyGuidesModel" (441 : Nat) ({ cls := "ValleyGuidesModel", name := "ropeWorth", desc := "(II)I" } : Jvm.MethodName)) ∈ lw_all := lw_g (lw_at lw_m10 20 rfl) rfl
theorem q2283 : (Jvm.Cond.privateMethod ({ cls := "ValleyGuidesModel", name := "ropeWorth", desc := "(II)I" } : Jvm.MethodName)) ∈ lw_tbl := lw_at lw_m10 21 rfl
theorem q2284 : (Jvm.Cond.instanceMethod ({ cls := "ValleyGuidesModel", name := "ropeWorth", desc := "(II)I" } : Jvm.MethodName)) ∈ lw_all := lw_g (lw_at lw_m10 22 rfl) rfl
theorem q2285 : (Jvm.Cond.code ({ cls := "ValleyGuidesModel", name := "ropeWorth", desc := "(II)I" } : Jvm.MethodName) prog_26_method_76_code (7 : Nat) (Option.some Jvm.ClassFile.FieldType.int)) ∈ lw_all := lw_g (lw_at lw_m10 23 rfl) rfl
theorem q2286 : (Jvm.Cond.methodLink "ValleyGuidesModel" (437 : Nat) ({ cls := "ValleyGuidesModel", name := "bits", desc := "(I)I" } : Jvm.MethodName)) ∈ lw_all := lw_g (lw_at lw_m10 24 rfl) rfl
theorem q2287 : (Jvm.Cond.static ({ cls := "ValleyGuidesModel", name := "bits", desc := "(I)I" } : Jvm.MethodName)) ∈ lw_all := lw_g (lw_at lw_m10 25 rfl) rfl
theorem q2288 : (Jvm.Cond.code ({ cls := "ValleyGuidesModel", name := "bits", desc := "(I)I" } : Jvm.MethodName) prog_26_method_75_code (3 : Nat) (Option.some Jvm.ClassFile.FieldType.int)) ∈ lw_all := lw_g (lw_at lw_m10 26 rfl) rfl
theorem q2290 : (Jvm.Cond.instanceMethod ({ cls := "ValleyGuidesModel", name := "rope", desc := "(IIII)I" } : Jvm.MethodName)) ∈ lw_all := lw_g (lw_at lw_m10 28 rfl) rfl
theorem q2291 : (Jvm.Cond.selects "ValleyGuidesModel" ({ cls := "ValleyGuidesModel", name := "rope", desc := "(IIII)I" } : Jvm.MethodName) ({ cls := "ValleyGuidesModel", name := "rope", desc := "(IIII)I" } : Jvm.MethodName)) ∈ lw_all := lw_g (lw_at lw_m10 29 rfl) rfl
theorem q2292 : (Jvm.Cond.code ({ cls := "ValleyGuidesModel", name := "rope", desc := "(IIII)I" } : Jvm.MethodName) prog_26_method_79_code (5 : Nat) (Option.some Jvm.ClassFile.FieldType.int)) ∈ lw_all := lw_g (lw_at lw_m10 30 rfl) rfl
theorem q2294 : (Jvm.Cond.instanceMethod ({ cls := "ValleyGuidesModel", name := "unrope", desc := "()I" } : Jvm.MethodName)) ∈ lw_all := lw_g (lw_at lw_m10 32 rfl) rfl
theorem q2295 : (Jvm.Cond.selects "ValleyGuidesModel" ({ cls := "ValleyGuidesModel", name := "unrope", desc := "()I" } : Jvm.MethodName) ({ cls := "ValleyGuidesModel", name := "unrope", desc := "()I" } : Jvm.MethodName)) ∈ lw_all := lw_g (lw_at lw_m10 33 rfl) rfl
theorem q2296 : (Jvm.Cond.code ({ cls := "ValleyGuidesModel", name := "unrope", desc := "()I" } : Jvm.MethodName) prog_26_method_80_code (1 : Nat) (Option.some Jvm.ClassFile.FieldType.int)) ∈ lw_all := lw_g (lw_at lw_m10 34 rfl) rfl
theorem q2298 : (Jvm.Cond.instanceMethod ({ cls := "ValleyGuidesModel", name := "went", desc := "(II)I" } : Jvm.MethodName)) ∈ lw_all := lw_g (lw_at lw_m10 36 rfl) rfl
theorem q2299 : (Jvm.Cond.selects "ValleyGuidesModel" ({ cls := "ValleyGuidesModel", name := "went", desc := "(II)I" } : Jvm.MethodName) ({ cls := "ValleyGuidesModel", name := "went", desc := "(II)I" } : Jvm.MethodName)) ∈ lw_all := lw_g (lw_at lw_m10 37 rfl) rfl
theorem q2300 : (Jvm.Cond.code ({ cls := "ValleyGuidesModel", name := "went", desc := "(II)I" } : Jvm.MethodName) prog_26_method_88_code (3 : Nat) (Option.some Jvm.ClassFile.FieldType.int)) ∈ lw_all := lw_g (lw_at lw_m10 38 rfl) rfl
theorem q2301 : (Jvm.Cond.methodLink "ValleyGuidesModel" (472 : Nat) ({ cls := "ValleyGuidesModel", name := "goesTo", desc := "(I)V" } : Jvm.MethodName)) ∈ lw_all := lw_g (lw_at lw_m10 39 rfl) rfl
theorem q2302 : (Jvm.Cond.privateMethod ({ cls := "ValleyGuidesModel", name := "goesTo", desc := "(I)V" } : Jvm.MethodName)) ∈ lw_tbl := lw_at lw_m10 40 rfl
theorem q2303 : (Jvm.Cond.instanceMethod ({ cls := "ValleyGuidesModel", name := "goesTo", desc := "(I)V" } : Jvm.MethodName)) ∈ lw_all := lw_g (lw_at lw_m10 41 rfl) rfl
theorem q2304 : (Jvm.Cond.code ({ cls := "ValleyGuidesModel", name := "goesTo", desc := "(I)V" } : Jvm.MethodName) prog_26_method_87_code (3 : Nat) (Option.none : Option Jvm.ClassFile.FieldType)) ∈ lw_all := lw_g (lw_at lw_m10 42 rfl) rfl
theorem q2305 : (Jvm.Cond.methodLink "ValleyGuidesModel" (469 : Nat) ({ cls := "ValleyGuidesModel", name := "quarter", desc := "(I)V" } : Jvm.MethodName)) ∈ lw_all := lw_g (lw_at lw_m10 43 rfl) rfl
theorem q2306 : (Jvm.Cond.privateMethod ({ cls := "ValleyGuidesModel", name := "quarter", desc := "(I)V" } : Jvm.MethodName)) ∈ lw_tbl := lw_at lw_m10 44 rfl
theorem q2307 : (Jvm.Cond.instanceMethod ({ cls := "ValleyGuidesModel", name := "quarter", desc := "(I)V" } : Jvm.MethodName)) ∈ lw_all := lw_g (lw_at lw_m10 45 rfl) rfl
theorem q2308 : (Jvm.Cond.code ({ cls := "ValleyGuidesModel", name := "quarter", desc := "(I)V" } : Jvm.MethodName) prog_26_method_86_code (6 : Nat) (Option.none : Option Jvm.ClassFile.FieldType)) ∈ lw_all := lw_g (lw_at lw_m10 46 rfl) rfl
theorem q2309 : (Jvm.Cond.methodLink "ValleyGuidesModel" (463 : Nat) ({ cls := "ValleyGuidesModel", name := "comes", desc := "(III)V" } : Jvm.MethodName)) ∈ lw_all := lw_g (lw_at lw_m10 47 rfl) rfl
theorem q2310 : (Jvm.Cond.privateMethod ({ cls := "ValleyGuidesModel", name := "comes", desc := "(III)V" } : Jvm.MethodName)) ∈ lw_tbl := lw_at lw_m10 48 rfl
theorem q2311 : (Jvm.Cond.instanceMethod ({ cls := "ValleyGuidesModel", name := "comes", desc := "(III)V" } : Jvm.MethodName)) ∈ lw_all := lw_g (lw_at lw_m10 49 rfl) rfl
theorem q2312 : (Jvm.Cond.code ({ cls := "ValleyGuidesModel", name := "comes", desc := "(III)V" } : Jvm.MethodName) prog_26_method_81_code (4 : Nat) (Option.none : Option Jvm.ClassFile.FieldType)) ∈ lw_all := lw_g (lw_at lw_m10 50 rfl) rfl
theorem q2313 : (Jvm.Cond.methodLink "ValleyGuidesModel" (466 : Nat) ({ cls := "ValleyGuidesModel", name := "decides", desc := "(II)V" } : Jvm.MethodName)) ∈ lw_all := lw_g (lw_at lw_m10 51 rfl) rfl
theorem q2314 : (Jvm.Cond.privateMethod ({ cls := "ValleyGuidesModel", name := "decides", desc := "(II)V" } : Jvm.MethodName)) ∈ lw_tbl := lw_at lw_m10 52 rfl
theorem q2315 : (Jvm.Cond.instanceMethod ({ cls := "ValleyGuidesModel", name := "decides", desc := "(II)V" } : Jvm.MethodName)) ∈ lw_all := lw_g (lw_at lw_m10 53 rfl) rfl
theorem q2316 : (Jvm.Cond.code ({ cls := "ValleyGuidesModel", name := "decides", desc := "(II)V" } : Jvm.MethodName) prog_26_method_85_code (6 : Nat) (Option.none : Option Jvm.ClassFile.FieldType)) ∈ lw_all := lw_g (lw_at lw_m10 54 rfl) rfl
theorem q2317 : (Jvm.Cond.methodLink "ValleyGuidesModel" (452 : Nat) ({ cls := "ValleyGuidesModel", name := "done", desc := "(II)V" } : Jvm.MethodName)) ∈ lw_all := lw_g (lw_at lw_m10 55 rfl) rfl
theorem q2318 : (Jvm.Cond.privateMethod ({ cls := "ValleyGuidesModel", name := "done", desc := "(II)V" } : Jvm.MethodName)) ∈ lw_tbl := lw_at lw_m10 56 rfl
theorem q2319 : (Jvm.Cond.instanceMethod ({ cls := "ValleyGuidesModel", name := "done", desc := "(II)V" } : Jvm.MethodName)) ∈ lw_all := lw_g (lw_at lw_m10 57 rfl) rfl
theorem q2320 : (Jvm.Cond.code ({ cls := "ValleyGuidesModel", name := "done", desc := "(II)V" } : Jvm.MethodName) prog_26_method_82_code (6 : Nat) (Option.none : Option Jvm.ClassFile.FieldType)) ∈ lw_all := lw_g (lw_at lw_m10 58 rfl) rfl
theorem q2321 : (Jvm.Cond.methodLink "ValleyGuidesModel" (456 : Nat) ({ cls := "ValleyGuidesModel", name := "isCalledBack", desc := "(II)Z" } : Jvm.MethodName)) ∈ lw_all := lw_g (lw_at lw_m10 59 rfl) rfl
theorem q2322 : (Jvm.Cond.privateMethod ({ cls := "ValleyGuidesModel", name := "isCalledBack", desc := "(II)Z" } : Jvm.MethodName)) ∈ lw_tbl := lw_at lw_m10 60 rfl
theorem q2323 : (Jvm.Cond.instanceMethod ({ cls := "ValleyGuidesModel", name := "isCalledBack", desc := "(II)Z" } : Jvm.MethodName)) ∈ lw_all := lw_g (lw_at lw_m10 61 rfl) rfl
theorem q2324 : (Jvm.Cond.code ({ cls := "ValleyGuidesModel", name := "isCalledBack", desc := "(II)Z" } : Jvm.MethodName) prog_26_method_84_code (5 : Nat) (Option.some Jvm.ClassFile.FieldType.boolean)) ∈ lw_all := lw_g (lw_at lw_m10 62 rfl) rfl
theorem q2325 : (Jvm.Cond.methodLink "ValleyGuidesModel" (460 : Nat) ({ cls := "ValleyGuidesModel", name := "bearsOne", desc := "(I)Z" } : Jvm.MethodName)) ∈ lw_all := lw_g (lw_at lw_m10 63 rfl) rfl
theorem q2326 : (Jvm.Cond.privateMethod ({ cls := "ValleyGuidesModel", name := "bearsOne", desc := "(I)Z" } : Jvm.MethodName)) ∈ lw_tbl := lw_at lw_m10 64 rfl
theorem q2327 : (Jvm.Cond.instanceMethod ({ cls := "ValleyGuidesModel", name := "bearsOne", desc := "(I)Z" } : Jvm.MethodName)) ∈ lw_all := lw_g (lw_at lw_m10 65 rfl) rfl
theorem q2328 : (Jvm.Cond.code ({ cls := "ValleyGuidesModel", name := "bearsOne", desc := "(I)Z" } : Jvm.MethodName) prog_26_method_83_code (4 : Nat) (Option.some Jvm.ClassFile.FieldType.boolean)) ∈ lw_all := lw_g (lw_at lw_m10 66 rfl) rfl
theorem q2330 : (Jvm.Cond.instanceMethod ({ cls := "ValleyGuidesModel", name := "stayed", desc := "(II)I" } : Jvm.MethodName)) ∈ lw_all := lw_g (lw_at lw_m10 68 rfl) rfl
theorem q2331 : (Jvm.Cond.selects "ValleyGuidesModel" ({ cls := "ValleyGuidesModel", name := "stayed", desc := "(II)I" } : Jvm.MethodName) ({ cls := "ValleyGuidesModel", name := "stayed", desc := "(II)I" } : Jvm.MethodName)) ∈ lw_all := lw_g (lw_at lw_m10 69 rfl) rfl
theorem q2332 : (Jvm.Cond.code ({ cls := "ValleyGuidesModel", name := "stayed", desc := "(II)I" } : Jvm.MethodName) prog_26_method_89_code (3 : Nat) (Option.some Jvm.ClassFile.FieldType.int)) ∈ lw_all := lw_g (lw_at lw_m10 70 rfl) rfl
theorem q2334 : (Jvm.Cond.instanceMethod ({ cls := "ValleyGuidesModel", name := "at", desc := "(II)I" } : Jvm.MethodName)) ∈ lw_all := lw_g (lw_at lw_m10 72 rfl) rfl
theorem q2335 : (Jvm.Cond.selects "ValleyGuidesModel" ({ cls := "ValleyGuidesModel", name := "at", desc := "(II)I" } : Jvm.MethodName) ({ cls := "ValleyGuidesModel", name := "at", desc := "(II)I" } : Jvm.MethodName)) ∈ lw_all := lw_g (lw_at lw_m10 73 rfl) rfl
theorem q2336 : (Jvm.Cond.code ({ cls := "ValleyGuidesModel", name := "at", desc := "(II)I" } : Jvm.MethodName) prog_26_method_91_code (3 : Nat) (Option.some Jvm.ClassFile.FieldType.int)) ∈ lw_all := lw_g (lw_at lw_m10 74 rfl) rfl
theorem q2337 : (Jvm.Cond.methodLink "ValleyGuidesModel" (475 : Nat) ({ cls := "ValleyGuidesModel", name := "where", desc := "(I)I" } : Jvm.MethodName)) ∈ lw_all := lw_g (lw_at lw_m10 75 rfl) rfl
theorem q2338 : (Jvm.Cond.privateMethod ({ cls := "ValleyGuidesModel", name := "where", desc := "(I)I" } : Jvm.MethodName)) ∈ lw_tbl := lw_at lw_m10 76 rfl
theorem q2339 : (Jvm.Cond.instanceMethod ({ cls := "ValleyGuidesModel", name := "where", desc := "(I)I" } : Jvm.MethodName)) ∈ lw_all := lw_g (lw_at lw_m10 77 rfl) rfl
theorem q2340 : (Jvm.Cond.code ({ cls := "ValleyGuidesModel", name := "where", desc := "(I)I" } : Jvm.MethodName) prog_26_method_90_code (2 : Nat) (Option.some Jvm.ClassFile.FieldType.int)) ∈ lw_all := lw_g (lw_at lw_m10 78 rfl) rfl
theorem q2342 : (Jvm.Cond.instanceMethod ({ cls := "ValleyGuidesModel", name := "near", desc := "(III)I" } : Jvm.MethodName)) ∈ lw_all := lw_g (lw_at lw_m10 80 rfl) rfl
theorem q2343 : (Jvm.Cond.selects "ValleyGuidesModel" ({ cls := "ValleyGuidesModel", name := "near", desc := "(III)I" } : Jvm.MethodName) ({ cls := "ValleyGuidesModel", name := "near", desc := "(III)I" } : Jvm.MethodName)) ∈ lw_all := lw_g (lw_at lw_m10 81 rfl) rfl
theorem q2344 : (Jvm.Cond.code ({ cls := "ValleyGuidesModel", name := "near", desc := "(III)I" } : Jvm.MethodName) prog_26_method_92_code (9 : Nat) (Option.some Jvm.ClassFile.FieldType.int)) ∈ lw_all := lw_g (lw_at lw_m10 82 rfl) rfl
theorem q2345 : (Jvm.Cond.constantLong "ValleyGuidesModel" (478 : Nat) (99 : Int64)) ∈ lw_all := lw_g (lw_at lw_m10 83 rfl) rfl
theorem q2347 : (Jvm.Cond.instanceMethod ({ cls := "ValleyGuidesModel", name := "entry", desc := "(III)I" } : Jvm.MethodName)) ∈ lw_all := lw_g (lw_at lw_m10 85 rfl) rfl
theorem q2348 : (Jvm.Cond.selects "ValleyGuidesModel" ({ cls := "ValleyGuidesModel", name := "entry", desc := "(III)I" } : Jvm.MethodName) ({ cls := "ValleyGuidesModel", name := "entry", desc := "(III)I" } : Jvm.MethodName)) ∈ lw_all := lw_g (lw_at lw_m10 86 rfl) rfl
theorem q2349 : (Jvm.Cond.code ({ cls := "ValleyGuidesModel", name := "entry", desc := "(III)I" } : Jvm.MethodName) prog_26_method_93_code (4 : Nat) (Option.some Jvm.ClassFile.FieldType.int)) ∈ lw_all := lw_g (lw_at lw_m10 87 rfl) rfl
theorem q2351 : (Jvm.Cond.instanceMethod ({ cls := "ValleyGuidesModel", name := "grade", desc := "(III)J" } : Jvm.MethodName)) ∈ lw_all := lw_g (lw_at lw_m10 89 rfl) rfl
theorem q2352 : (Jvm.Cond.selects "ValleyGuidesModel" ({ cls := "ValleyGuidesModel", name := "grade", desc := "(III)J" } : Jvm.MethodName) ({ cls := "ValleyGuidesModel", name := "grade", desc := "(III)J" } : Jvm.MethodName)) ∈ lw_all := lw_g (lw_at lw_m10 90 rfl) rfl
theorem q2353 : (Jvm.Cond.code ({ cls := "ValleyGuidesModel", name := "grade", desc := "(III)J" } : Jvm.MethodName) prog_26_method_99_code (5 : Nat) (Option.some Jvm.ClassFile.FieldType.long)) ∈ lw_all := lw_g (lw_at lw_m10 91 rfl) rfl
theorem q2354 : (Jvm.Cond.constantLong "ValleyGuidesModel" (504 : Nat) (-1000000000000 : Int64)) ∈ lw_all := lw_g (lw_at lw_m10 92 rfl) rfl
theorem q2355 : (Jvm.Cond.methodLink "ValleyGuidesModel" (490 : Nat) ({ cls := "ValleyGuidesModel", name := "findLots", desc := "()V" } : Jvm.MethodName)) ∈ lw_all := lw_g (lw_at lw_m10 93 rfl) rfl
theorem q2356 : (Jvm.Cond.privateMethod ({ cls := "ValleyGuidesModel", name := "findLots", desc := "()V" } : Jvm.MethodName)) ∈ lw_tbl := lw_at lw_m10 94 rfl
theorem q2357 : (Jvm.Cond.instanceMethod ({ cls := "ValleyGuidesModel", name := "findLots", desc := "()V" } : Jvm.MethodName)) ∈ lw_all := lw_g (lw_at lw_m10 95 rfl) rfl
theorem q2358 : (Jvm.Cond.code ({ cls := "ValleyGuidesModel", name := "findLots", desc := "()V" } : Jvm.MethodName) prog_26_method_94_code (6 : Nat) (Option.none : Option Jvm.ClassFile.FieldType)) ∈ lw_all := lw_g (lw_at lw_m10 96 rfl) rfl
theorem q2359 : (Jvm.Cond.constantLong "ValleyGuidesModel" (506 : Nat) (-1000000000004 : Int64)) ∈ lw_all := lw_g (lw_at lw_m10 97 rfl) rfl
theorem q2360 : (Jvm.Cond.methodLink "ValleyGuidesModel" (508 : Nat) ({ cls := "ValleyGuidesModel", name := "findGrade", desc := "(I)V" } : Jvm.MethodName)) ∈ lw_all := lw_g (lw_at lw_m10 98 rfl) rfl
theorem q2361 : (Jvm.Cond.privateMethod ({ cls := "ValleyGuidesModel", name := "findGrade", desc := "(I)V" } : Jvm.MethodName)) ∈ lw_tbl := lw_at lw_m10 99 rfl
theorem q2362 : (Jvm.Cond.instanceMethod ({ cls := "ValleyGuidesModel", name := "findGrade", desc := "(I)V" } : Jvm.MethodName)) ∈ lw_all := lw_g (lw_at lw_m10 100 rfl) rfl
theorem q2363 : (Jvm.Cond.code ({ cls := "ValleyGuidesModel", name := "findGrade", desc := "(I)V" } : Jvm.MethodName) prog_26_method_98_code (13 : Nat) (Option.none : Option Jvm.ClassFile.FieldType)) ∈ lw_all := lw_g (lw_at lw_m10 101 rfl) rfl
theorem q2364 : (Jvm.Cond.methodLink "ValleyGuidesModel" (493 : Nat) ({ cls := "ValleyGuidesModel", name := "rootOf", desc := "(I)I" } : Jvm.MethodName)) ∈ lw_all := lw_g (lw_at lw_m10 102 rfl) rfl
theorem q2365 : (Jvm.Cond.privateMethod ({ cls := "ValleyGuidesModel", name := "rootOf", desc := "(I)I" } : Jvm.MethodName)) ∈ lw_tbl := lw_at lw_m10 103 rfl
theorem q2366 : (Jvm.Cond.instanceMethod ({ cls := "ValleyGuidesModel", name := "rootOf", desc := "(I)I" } : Jvm.MethodName)) ∈ lw_all := lw_g (lw_at lw_m10 104 rfl) rfl
theorem q2367 : (Jvm.Cond.code ({ cls := "ValleyGuidesModel", name := "rootOf", desc := "(I)I" } : Jvm.MethodName) prog_26_method_95_code (3 : Nat) (Option.some Jvm.ClassFile.FieldType.int)) ∈ lw_all := lw_g (lw_at lw_m10 105 rfl) rfl
theorem q2368 : (Jvm.Cond.methodLink "ValleyGuidesModel" (496 : Nat) ({ cls := "ValleyGuidesModel", name := "adds", desc := "(IIJ)V" } : Jvm.MethodName)) ∈ lw_all := lw_g (lw_at lw_m10 106 rfl) rfl
theorem q2369 : (Jvm.Cond.privateMethod ({ cls := "ValleyGuidesModel", name := "adds", desc := "(IIJ)V" } : Jvm.MethodName)) ∈ lw_tbl := lw_at lw_m10 107 rfl
theorem q2370 : (Jvm.Cond.instanceMethod ({ cls := "ValleyGuidesModel", name := "adds", desc := "(IIJ)V" } : Jvm.MethodName)) ∈ lw_all := lw_g (lw_at lw_m10 108 rfl) rfl
theorem q2371 : (Jvm.Cond.code ({ cls := "ValleyGuidesModel", name := "adds", desc := "(IIJ)V" } : Jvm.MethodName) prog_26_method_96_code (5 : Nat) (Option.none : Option Jvm.ClassFile.FieldType)) ∈ lw_all := lw_g (lw_at lw_m10 109 rfl) rfl
theorem q2372 : (Jvm.Cond.methodLink "ValleyGuidesModel" (500 : Nat) ({ cls := "ValleyGuidesModel", name := "lowest", desc := "(JJ)V" } : Jvm.MethodName)) ∈ lw_all := lw_g (lw_at lw_m10 110 rfl) rfl
theorem q2373 : (Jvm.Cond.privateMethod ({ cls := "ValleyGuidesModel", name := "lowest", desc := "(JJ)V" } : Jvm.MethodName)) ∈ lw_tbl := lw_at lw_m10 111 rfl
theorem q2374 : (Jvm.Cond.instanceMethod ({ cls := "ValleyGuidesModel", name := "lowest", desc := "(JJ)V" } : Jvm.MethodName)) ∈ lw_all := lw_g (lw_at lw_m10 112 rfl) rfl
theorem q2375 : (Jvm.Cond.code ({ cls := "ValleyGuidesModel", name := "lowest", desc := "(JJ)V" } : Jvm.MethodName) prog_26_method_97_code (11 : Nat) (Option.none : Option Jvm.ClassFile.FieldType)) ∈ lw_all := lw_g (lw_at lw_m10 113 rfl) rfl
theorem q2377 : (Jvm.Cond.instanceMethod ({ cls := "ValleyGuidesModel", name := "over", desc := "(II)J" } : Jvm.MethodName)) ∈ lw_all := lw_g (lw_at lw_m10 115 rfl) rfl
theorem q2378 : (Jvm.Cond.selects "ValleyGuidesModel" ({ cls := "ValleyGuidesModel", name := "over", desc := "(II)J" } : Jvm.MethodName) ({ cls := "ValleyGuidesModel", name := "over", desc := "(II)J" } : Jvm.MethodName)) ∈ lw_all := lw_g (lw_at lw_m10 116 rfl) rfl
theorem q2379 : (Jvm.Cond.code ({ cls := "ValleyGuidesModel", name := "over", desc := "(II)J" } : Jvm.MethodName) prog_26_method_100_code (7 : Nat) (Option.some Jvm.ClassFile.FieldType.long)) ∈ lw_all := lw_g (lw_at lw_m10 117 rfl) rfl
theorem q2381 : (Jvm.Cond.instanceMethod ({ cls := "ValleyGuidesModel", name := "pieces", desc := "()I" } : Jvm.MethodName)) ∈ lw_all := lw_g (lw_at lw_m10 119 rfl) rfl
theorem q2382 : (Jvm.Cond.selects "ValleyGuidesModel" ({ cls := "ValleyGuidesModel", name := "pieces", desc := "()I" } : Jvm.MethodName) ({ cls := "ValleyGuidesModel", name := "pieces", desc := "()I" } : Jvm.MethodName)) ∈ lw_all := lw_g (lw_at lw_m10 120 rfl) rfl
theorem q2383 : (Jvm.Cond.code ({ cls := "ValleyGuidesModel", name := "pieces", desc := "()I" } : Jvm.MethodName) prog_26_method_101_code (3 : Nat) (Option.some Jvm.ClassFile.FieldType.int)) ∈ lw_all := lw_g (lw_at lw_m10 121 rfl) rfl
theorem q2385 : (Jvm.Cond.instanceMethod ({ cls := "ValleyGuidesModel", name := "give", desc := "(I)I" } : Jvm.MethodName)) ∈ lw_all := lw_g (lw_at lw_m10 123 rfl) rfl
theorem q2386 : (Jvm.Cond.selects "ValleyGuidesModel" ({ cls := "ValleyGuidesModel", name := "give", desc := "(I)I" } : Jvm.MethodName) ({ cls := "ValleyGuidesModel", name := "give", desc := "(I)I" } : Jvm.MethodName)) ∈ lw_all := lw_g (lw_at lw_m10 124 rfl) rfl
theorem q2387 : (Jvm.Cond.code ({ cls := "ValleyGuidesModel", name := "give", desc := "(I)I" } : Jvm.MethodName) prog_26_method_102_code (2 : Nat) (Option.some Jvm.ClassFile.FieldType.int)) ∈ lw_all := lw_g (lw_at lw_m10 125 rfl) rfl
theorem q2388 : (Jvm.Cond.constantLong "ValleyGuidesModel" (511 : Nat) (100000 : Int64)) ∈ lw_all := lw_g (lw_at lw_m10 126 rfl) rfl
theorem q2389 : (Jvm.Cond.constant "ValleyGuidesModel" (513 : Nat) (1000000000 : Int32)) ∈ lw_all := lw_g (lw_at lw_m10 127 rfl) rfl
theorem q2391 : (Jvm.Cond.instanceMethod ({ cls := "ValleyGuidesModel", name := "share", desc := "(I)I" } : Jvm.MethodName)) ∈ lw_all := lw_g (lw_at lw_m10 129 rfl) rfl
theorem q2392 : (Jvm.Cond.selects "ValleyGuidesModel" ({ cls := "ValleyGuidesModel", name := "share", desc := "(I)I" } : Jvm.MethodName) ({ cls := "ValleyGuidesModel", name := "share", desc := "(I)I" } : Jvm.MethodName)) ∈ lw_all := lw_g (lw_at lw_m10 130 rfl) rfl
theorem q2393 : (Jvm.Cond.code ({ cls := "ValleyGuidesModel", name := "share", desc := "(I)I" } : Jvm.MethodName) prog_26_method_103_code (5 : Nat) (Option.some Jvm.ClassFile.FieldType.int)) ∈ lw_all := lw_g (lw_at lw_m10 131 rfl) rfl
theorem q2395 : (Jvm.Cond.instanceMethod ({ cls := "ValleyGuidesModel", name := "image", desc := "()I" } : Jvm.MethodName)) ∈ lw_all := lw_g (lw_at lw_m10 133 rfl) rfl
theorem q2396 : (Jvm.Cond.selects "ValleyGuidesModel" ({ cls := "ValleyGuidesModel", name := "image", desc := "()I" } : Jvm.MethodName) ({ cls := "ValleyGuidesModel", name := "image", desc := "()I" } : Jvm.MethodName)) ∈ lw_all := lw_g (lw_at lw_m10 134 rfl) rfl
theorem q2397 : (Jvm.Cond.code ({ cls := "ValleyGuidesModel", name := "image", desc := "()I" } : Jvm.MethodName) prog_26_method_104_code (2 : Nat) (Option.some Jvm.ClassFile.FieldType.int)) ∈ lw_all := lw_g (lw_at lw_m10 135 rfl) rfl
theorem q2399 : (Jvm.Cond.instanceMethod ({ cls := "ValleyGuidesModel", name := "back", desc := "()I" } : Jvm.MethodName)) ∈ lw_all := lw_g (lw_at lw_m10 137 rfl) rfl
theorem q2400 : (Jvm.Cond.selects "ValleyGuidesModel" ({ cls := "ValleyGuidesModel", name := "back", desc := "()I" } : Jvm.MethodName) ({ cls := "ValleyGuidesModel", name := "back", desc := "()I" } : Jvm.MethodName)) ∈ lw_all := lw_g (lw_at lw_m10 138 rfl) rfl
theorem q2401 : (Jvm.Cond.code ({ cls := "ValleyGuidesModel", name := "back", desc := "()I" } : Jvm.MethodName) prog_26_method_105_code (3 : Nat) (Option.some Jvm.ClassFile.FieldType.int)) ∈ lw_all := lw_g (lw_at lw_m10 139 rfl) rfl
theorem q2403 : (Jvm.Cond.instanceMethod ({ cls := "ValleyGuidesModel", name := "count", desc := "(I)I" } : Jvm.MethodName)) ∈ lw_all := lw_g (lw_at lw_m10 141 rfl) rfl
theorem q2404 : (Jvm.Cond.selects "ValleyGuidesModel" ({ cls := "ValleyGuidesModel", name := "count", desc := "(I)I" } : Jvm.MethodName) ({ cls := "ValleyGuidesModel", name := "count", desc := "(I)I" } : Jvm.MethodName)) ∈ lw_all := lw_g (lw_at lw_m10 142 rfl) rfl
theorem q2405 : (Jvm.Cond.code ({ cls := "ValleyGuidesModel", name := "count", desc := "(I)I" } : Jvm.MethodName) prog_26_method_106_code (5 : Nat) (Option.some Jvm.ClassFile.FieldType.int)) ∈ lw_all := lw_g (lw_at lw_m10 143 rfl) rfl
theorem q2429 : (Jvm.Cond.castable "ValleyGuidesModel" "java/lang/Object") ∈ lw_tbl := lw_at lw_m10 167 rfl
theorem in_X3 : ∀ w ∈ wsX30, w ∈ lw_all := lw_in wsX30 [1788, 1790, 1792, 1794, 1796, 1798, 1800, 1802, 1804, 1806, 1808, 1810, 1812, 1814, 1816, 1818, 1820, 1822, 1824, 1826, 1828, 1830, 1832, 1834, 1836, 1838, 1840, 1842, 1844, 1846, 1848, 1850, 1852, 1854, 1856, 1858, 1860, 1862, 1864, 1866, 1868, 1870, 1872, 1874, 1876, 1878, 1880, 1882, 1884, 1886, 1888, 1890, 1892, 1894, 1896, 1898, 1900, 1902, 1904, 1906, 1908, 1910, 1912, 1914, 1916, 1918, 1920, 1922, 1924, 1926, 1928, 1930, 1932, 1934, 1936, 1938, 1940, 1942, 1944, 1946, 1948, 1950, 1952, 1954, 1956, 1958, 1960, 1962, 1964, 1966] (by decide +kernel) (by decide +kernel)

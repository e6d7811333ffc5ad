/-! WeatherWagesModel -/
set_option maxRecDepth 100000
def RX4 : String := "WeatherWagesModel"
def TX4 : u_T := fun k => match k with
  | 0 => ("WeatherWagesModel", "tape", "[B", true)
  | 1 => ("WeatherWagesModel", "text", "[B", true)
  | 2 => ("WeatherWagesModel", "taped", "I", false)
  | 3 => ("WeatherWagesModel", "size", "I", false)
  | 4 => ("WeatherWagesModel", "faultKind", "I", false)
  | 5 => ("WeatherWagesModel", "faultPlace", "I", false)
  | 6 => ("WeatherWagesModel", "at", "I", false)
  | 7 => ("WeatherWagesModel", "end", "I", false)
  | 8 => ("WeatherWagesModel", "token", "I", false)
  | 9 => ("WeatherWagesModel", "number", "I", false)
  | 10 => ("WeatherWagesModel", "name", "J", false)
  | 11 => ("WeatherWagesModel", "kinds", "[I", true)
  | 12 => ("WeatherWagesModel", "men", "[I", true)
  | 13 => ("WeatherWagesModel", "books", "[I", true)
  | 14 => ("WeatherWagesModel", "rates", "[I", true)
  | 15 => ("WeatherWagesModel", "units", "[I", true)
  | 16 => ("WeatherWagesModel", "hours", "[I", true)
  | 17 => ("WeatherWagesModel", "draw", "[I", true)
  | 18 => ("WeatherWagesModel", "isLoose", "[I", true)
  | 19 => ("WeatherWagesModel", "isHedged", "[I", true)
  | 20 => ("WeatherWagesModel", "cropTold", "[I", true)
  | 21 => ("WeatherWagesModel", "hedge", "[I", true)
  | 22 => ("WeatherWagesModel", "purseTold", "[I", true)
  | 23 => ("WeatherWagesModel", "payTold", "[I", true)
  | 24 => ("WeatherWagesModel", "isPurse", "[I", true)
  | 25 => ("WeatherWagesModel", "isPay", "[I", true)
  | 26 => ("WeatherWagesModel", "rateOf", "[I", true)
  | 27 => ("WeatherWagesModel", "rateFor", "[I", true)
  | 28 => ("WeatherWagesModel", "book", "[I", true)
  | 29 => ("WeatherWagesModel", "ruleFrom", "[I", true)
  | 30 => ("WeatherWagesModel", "ruleTo", "[I", true)
  | 31 => ("WeatherWagesModel", "hasGrow", "[Z", true)
  | 32 => ("WeatherWagesModel", "hasHours", "[Z", true)
  | 33 => ("WeatherWagesModel", "isDraw", "[Z", true)
  | 34 => ("WeatherWagesModel", "kName", "[J", true)
  | 35 => ("WeatherWagesModel", "mName", "[J", true)
  | 36 => ("WeatherWagesModel", "code", "[I", true)
  | 37 => ("WeatherWagesModel", "codeNumber", "[I", true)
  | 38 => ("WeatherWagesModel", "eWhat", "[I", true)
  | 39 => ("WeatherWagesModel", "eSign", "[I", true)
  | 40 => ("WeatherWagesModel", "pile", "[I", true)
  | 41 => ("WeatherWagesModel", "bank", "I", false)
  | 42 => ("WeatherWagesModel", "rb", "I", false)
  | 43 => ("WeatherWagesModel", "codes", "I", false)
  | 44 => ("WeatherWagesModel", "within", "I", false)
  | 45 => ("WeatherWagesModel", "piled", "I", false)
  | 46 => ("WeatherWagesModel", "unitsInRule", "I", false)
  | 47 => ("WeatherWagesModel", "askMan", "I", false)
  | 48 => ("WeatherWagesModel", "all", "[I", true)
  | 49 => ("WeatherWagesModel", "was", "[I", true)
  | 50 => ("WeatherWagesModel", "acts", "I", false)
  | 51 => ("WeatherWagesModel", "undone", "I", false)
  | 52 => ("WeatherWagesModel", "row", "[I", true)
  | 53 => ("WeatherWagesModel", "bestRow", "[I", true)
  | 54 => ("WeatherWagesModel", "laidRow", "[I", true)
  | 55 => ("WeatherWagesModel", "laid", "I", false)
  | 56 => ("WeatherWagesModel", "bestHours", "I", false)
  | 57 => ("WeatherWagesModel", "bestGrowth", "I", false)
  | 58 => ("WeatherWagesModel", "mostOf", "[I", true)
  | 59 => ("WeatherWagesModel", "firstRow", "[I", true)
  | 60 => ("WeatherWagesModel", "bothOf", "[I", true)
  | 61 => ("WeatherWagesModel", "restOf", "[I", true)
  | 62 => ("WeatherWagesModel", "poolHours", "I", false)
  | 63 => ("WeatherWagesModel", "poolGrowth", "I", false)
  | 64 => ("WeatherWagesModel", "kept", "[I", true)
  | 65 => ("WeatherWagesModel", "laidKept", "[I", true)
  | 66 => ("WeatherWagesModel", "spends", "[I", true)
  | 67 => ("WeatherWagesModel", "gainUpper", "I", false)
  | 68 => ("WeatherWagesModel", "gainLower", "I", false)
  | 69 => ("WeatherWagesModel", "gainRound", "I", false)
  | 70 => ("WeatherWagesModel", "sMan", "[I", true)
  | 71 => ("WeatherWagesModel", "sOther", "[I", true)
  | 72 => ("WeatherWagesModel", "sNumber", "[I", true)
  | 73 => ("WeatherWagesModel", "sIs", "[I", true)
  | 74 => ("WeatherWagesModel", "sTold", "[I", true)
  | 75 => ("WeatherWagesModel", "sUntold", "[I", true)
  | 76 => ("WeatherWagesModel", "bookOf", "[I", true)
  | 77 => ("WeatherWagesModel", "byBook", "[I", true)
  | 78 => ("WeatherWagesModel", "sights", "I", false)
  | 79 => ("WeatherWagesModel", "time", "I", false)
  | 80 => ("WeatherWagesModel", "fitting", "I", false)
  | 81 => ("WeatherWagesModel", "boxAll", "[I", true)
  | _ => ("WeatherWagesModel", "isBoxed", "[Z", true)
def tyX4 : Nat → FieldType := fun k => match k with
  | 0 => .array .byte
  | 1 => .array .byte
  | 2 => .int
  | 3 => .int
  | 4 => .int
  | 5 => .int
  | 6 => .int
  | 7 => .int
  | 8 => .int
  | 9 => .int
  | 10 => .long
  | 11 => .array .int
  | 12 => .array .int
  | 13 => .array .int
  | 14 => .array .int
  | 15 => .array .int
  | 16 => .array .int
  | 17 => .array .int
  | 18 => .array .int
  | 19 => .array .int
  | 20 => .array .int
  | 21 => .array .int
  | 22 => .array .int
  | 23 => .array .int
  | 24 => .array .int
  | 25 => .array .int
  | 26 => .array .int
  | 27 => .array .int
  | 28 => .array .int
  | 29 => .array .int
  | 30 => .array .int
  | 31 => .array .boolean
  | 32 => .array .boolean
  | 33 => .array .boolean
  | 34 => .array .long
  | 35 => .array .long
  | 36 => .array .int
  | 37 => .array .int
  | 38 => .array .int
  | 39 => .array .int
  | 40 => .array .int
  | 41 => .int
  | 42 => .int
  | 43 => .int
  | 44 => .int
  | 45 => .int
  | 46 => .int
  | 47 => .int
  | 48 => .array .int
  | 49 => .array .int
  | 50 => .int
  | 51 => .int
  | 52 => .array .int
  | 53 => .array .int
  | 54 => .array .int
  | 55 => .int
  | 56 => .int
  | 57 => .int
  | 58 => .array .int
  | 59 => .array .int
  | 60 => .array .int
  | 61 => .array .int
  | 62 => .int
  | 63 => .int
  | 64 => .array .int
  | 65 => .array .int
  | 66 => .array .int
  | 67 => .int
  | 68 => .int
  | 69 => .int
  | 70 => .array .int
  | 71 => .array .int
  | 72 => .array .int
  | 73 => .array .int
  | 74 => .array .int
  | 75 => .array .int
  | 76 => .array .int
  | 77 => .array .int
  | 78 => .int
  | 79 => .int
  | 80 => .int
  | 81 => .array .int
  | _ => .array .boolean
abbrev wsX40 : List Cond := u_ws RX4 TX4 83
set_option maxRecDepth 100000 in
theorem nmX4 : ∀ a, a < 83 → ∀ b, b < 83 → a ≠ b → (TX4 a).2.1 ≠ (TX4 b).2.1 := by decide +kernel
set_option maxRecDepth 100000 in
theorem tyX4_ok : ∀ k, k < 83 → parseFieldDescriptor (TX4 k).2.2.1 = some (tyX4 k) := by decide +kernel
abbrev cX4_init : ByteArray := prog_22_method_1_code
def yX4_init : MethodName := ⟨RX4, "<init>", "()V"⟩
def dkwX4_init_18 : List UInt8 := [181, 0, 176, 42, 182, 0, 179, 42, 182, 0, 182, 177]
abbrev dktX4_init_18 : List UInt8 := dkwX4_init_18 ++ []
def dkwX4_init_17 : List UInt8 := [181, 0, 167, 42, 16, 25, 188, 10, 181, 0, 170, 42, 16, 126, 188, 10, 181, 0, 173, 42, 6, 188, 4]
abbrev dktX4_init_17 : List UInt8 := dkwX4_init_17 ++ dktX4_init_18
def dkwX4_init_16 : List UInt8 := [181, 0, 158, 42, 16, 30, 188, 10, 181, 0, 161, 42, 16, 30, 188, 10, 181, 0, 164, 42, 8, 188, 10]
abbrev dktX4_init_16 : List UInt8 := dkwX4_init_16 ++ dktX4_init_17
def dkwX4_init_15 : List UInt8 := [181, 0, 149, 42, 16, 30, 188, 10, 181, 0, 152, 42, 16, 30, 188, 10, 181, 0, 155, 42, 16, 30, 188, 10]
abbrev dktX4_init_15 : List UInt8 := dkwX4_init_15 ++ dktX4_init_16
def dkwX4_init_14 : List UInt8 := [181, 0, 140, 42, 16, 8, 188, 10, 181, 0, 143, 42, 16, 15, 188, 10, 181, 0, 146, 42, 16, 30, 188, 10]
abbrev dktX4_init_14 : List UInt8 := dkwX4_init_14 ++ dktX4_init_15
def dkwX4_init_13 : List UInt8 := [181, 0, 131, 42, 6, 188, 10, 181, 0, 134, 42, 6, 188, 10, 181, 0, 137, 42, 16, 42, 188, 10]
abbrev dktX4_init_13 : List UInt8 := dkwX4_init_13 ++ dktX4_init_14
def dkwX4_init_12 : List UInt8 := [181, 0, 122, 42, 16, 8, 188, 10, 181, 0, 125, 42, 6, 188, 10, 181, 0, 128, 42, 6, 188, 10]
abbrev dktX4_init_12 : List UInt8 := dkwX4_init_12 ++ dktX4_init_13
def dkwX4_init_11 : List UInt8 := [181, 0, 113, 42, 17, 6, 186, 188, 10, 181, 0, 116, 42, 6, 188, 10, 181, 0, 119, 42, 6, 188, 10]
abbrev dktX4_init_11 : List UInt8 := dkwX4_init_11 ++ dktX4_init_12
def dkwX4_init_10 : List UInt8 := [181, 0, 104, 42, 16, 90, 188, 10, 181, 0, 107, 42, 16, 60, 188, 10, 181, 0, 110, 42, 16, 42, 188, 10]
abbrev dktX4_init_10 : List UInt8 := dkwX4_init_10 ++ dktX4_init_11
def dkwX4_init_9 : List UInt8 := [17, 4, 96, 188, 10, 181, 0, 98, 42, 17, 4, 96, 188, 10, 181, 0, 101, 42, 16, 90, 188, 10]
abbrev dktX4_init_9 : List UInt8 := dkwX4_init_9 ++ dktX4_init_10
def dkwX4_init_8 : List UInt8 := [42, 5, 188, 4, 181, 0, 88, 42, 16, 6, 188, 11, 181, 0, 91, 42, 16, 10, 188, 11, 181, 0, 95, 42]
abbrev dktX4_init_8 : List UInt8 := dkwX4_init_8 ++ dktX4_init_9
def dkwX4_init_7 : List UInt8 := [181, 0, 75, 42, 5, 188, 10, 181, 0, 78, 42, 5, 188, 4, 181, 0, 81, 42, 5, 188, 4, 181, 0, 85]
abbrev dktX4_init_7 : List UInt8 := dkwX4_init_7 ++ dktX4_init_8
def dkwX4_init_6 : List UInt8 := [181, 0, 66, 42, 16, 18, 188, 10, 181, 0, 69, 42, 16, 10, 188, 10, 181, 0, 72, 42, 5, 188, 10]
abbrev dktX4_init_6 : List UInt8 := dkwX4_init_6 ++ dktX4_init_7
def dkwX4_init_5 : List UInt8 := [181, 0, 57, 42, 16, 10, 188, 10, 181, 0, 60, 42, 16, 10, 188, 10, 181, 0, 63, 42, 16, 18, 188, 10]
abbrev dktX4_init_5 : List UInt8 := dkwX4_init_5 ++ dktX4_init_6
def dkwX4_init_4 : List UInt8 := [181, 0, 48, 42, 16, 10, 188, 10, 181, 0, 51, 42, 16, 30, 188, 10, 181, 0, 54, 42, 16, 30, 188, 10]
abbrev dktX4_init_4 : List UInt8 := dkwX4_init_4 ++ dktX4_init_5
def dkwX4_init_3 : List UInt8 := [188, 10, 181, 0, 39, 42, 5, 188, 10, 181, 0, 42, 42, 5, 188, 10, 181, 0, 45, 42, 16, 10, 188, 10]
abbrev dktX4_init_3 : List UInt8 := dkwX4_init_3 ++ dktX4_init_4
def dkwX4_init_2 : List UInt8 := [42, 5, 188, 10, 181, 0, 30, 42, 5, 188, 10, 181, 0, 33, 42, 5, 188, 10, 181, 0, 36, 42, 5]
abbrev dktX4_init_2 : List UInt8 := dkwX4_init_2 ++ dktX4_init_3
def dkwX4_init_1 : List UInt8 := [181, 0, 16, 42, 5, 188, 10, 181, 0, 20, 42, 5, 188, 10, 181, 0, 24, 42, 5, 188, 10, 181, 0, 27]
abbrev dktX4_init_1 : List UInt8 := dkwX4_init_1 ++ dktX4_init_2
def dkwX4_init_0 : List UInt8 := [42, 183, 0, 1, 42, 17, 6, 84, 188, 8, 181, 0, 7, 42, 17, 6, 64, 188, 8, 181, 0, 13, 42, 2]
abbrev dktX4_init_0 : List UInt8 := dkwX4_init_0 ++ dktX4_init_1
theorem dksX4_init_0 : cX4_init.data.toList.drop 0 = dktX4_init_0 := by decide +kernel
theorem dksX4_init_1 : cX4_init.data.toList.drop 24 = dktX4_init_1 := dk_seg dksX4_init_0 24 rfl rfl
theorem dksX4_init_2 : cX4_init.data.toList.drop 48 = dktX4_init_2 := dk_seg dksX4_init_1 24 rfl rfl
theorem dksX4_init_3 : cX4_init.data.toList.drop 71 = dktX4_init_3 := dk_seg dksX4_init_2 23 rfl rfl
theorem dksX4_init_4 : cX4_init.data.toList.drop 95 = dktX4_init_4 := dk_seg dksX4_init_3 24 rfl rfl
theorem dksX4_init_5 : cX4_init.data.toList.drop 119 = dktX4_init_5 := dk_seg dksX4_init_4 24 rfl rfl
theorem dksX4_init_6 : cX4_init.data.toList.drop 143 = dktX4_init_6 := dk_seg dksX4_init_5 24 rfl rfl
theorem dksX4_init_7 : cX4_init.data.toList.drop 166 = dktX4_init_7 := dk_seg dksX4_init_6 23 rfl rfl
theorem dksX4_init_8 : cX4_init.data.toList.drop 190 = dktX4_init_8 := dk_seg dksX4_init_7 24 rfl rfl
theorem dksX4_init_9 : cX4_init.data.toList.drop 214 = dktX4_init_9 := dk_seg dksX4_init_8 24 rfl rfl
theorem dksX4_init_10 : cX4_init.data.toList.drop 236 = dktX4_init_10 := dk_seg dksX4_init_9 22 rfl rfl
theorem dksX4_init_11 : cX4_init.data.toList.drop 260 = dktX4_init_11 := dk_seg dksX4_init_10 24 rfl rfl
theorem dksX4_init_12 : cX4_init.data.toList.drop 283 = dktX4_init_12 := dk_seg dksX4_init_11 23 rfl rfl
theorem dksX4_init_13 : cX4_init.data.toList.drop 305 = dktX4_init_13 := dk_seg dksX4_init_12 22 rfl rfl
theorem dksX4_init_14 : cX4_init.data.toList.drop 327 = dktX4_init_14 := dk_seg dksX4_init_13 22 rfl rfl
theorem dksX4_init_15 : cX4_init.data.toList.drop 351 = dktX4_init_15 := dk_seg dksX4_init_14 24 rfl rfl
theorem dksX4_init_16 : cX4_init.data.toList.drop 375 = dktX4_init_16 := dk_seg dksX4_init_15 24 rfl rfl
theorem dksX4_init_17 : cX4_init.data.toList.drop 398 = dktX4_init_17 := dk_seg dksX4_init_16 23 rfl rfl
theorem dksX4_init_18 : cX4_init.data.toList.drop 421 = dktX4_init_18 := dk_seg dksX4_init_17 23 rfl rfl
theorem dX4_init_0 : decode cX4_init 0 = .ok (.aload_n 0, 1) := dk_42 (dk_at dksX4_init_0 0 rfl rfl)
theorem dX4_init_1 : decode cX4_init 1 = .ok (.invokespecial 1, 3) := dk_183 0 1 (dk_at dksX4_init_0 1 rfl rfl)
theorem dX4_init_4 : decode cX4_init 4 = .ok (.aload_n 0, 1) := dk_42 (dk_at dksX4_init_0 4 rfl rfl)
theorem dX4_init_5 : decode cX4_init 5 = .ok (.sipush 1620, 3) := dk_17 6 84 (dk_at dksX4_init_0 5 rfl rfl)
theorem dX4_init_8 : decode cX4_init 8 = .ok (.newarray .byte, 2) := dk_188_8 (dk_at dksX4_init_0 8 rfl rfl)
theorem dX4_init_10 : decode cX4_init 10 = .ok (.putfield 7, 3) := dk_181 0 7 (dk_at dksX4_init_0 10 rfl rfl)
theorem dX4_init_13 : decode cX4_init 13 = .ok (.aload_n 0, 1) := dk_42 (dk_at dksX4_init_0 13 rfl rfl)
theorem dX4_init_14 : decode cX4_init 14 = .ok (.sipush 1600, 3) := dk_17 6 64 (dk_at dksX4_init_0 14 rfl rfl)
theorem dX4_init_17 : decode cX4_init 17 = .ok (.newarray .byte, 2) := dk_188_8 (dk_at dksX4_init_0 17 rfl rfl)
theorem dX4_init_19 : decode cX4_init 19 = .ok (.putfield 13, 3) := dk_181 0 13 (dk_at dksX4_init_0 19 rfl rfl)
theorem dX4_init_22 : decode cX4_init 22 = .ok (.aload_n 0, 1) := dk_42 (dk_at dksX4_init_0 22 rfl rfl)
theorem dX4_init_23 : decode cX4_init 23 = .ok (.iconst (-1), 1) := dk_2 (dk_at dksX4_init_0 23 rfl rfl)
theorem dX4_init_24 : decode cX4_init 24 = .ok (.putfield 16, 3) := dk_181 0 16 (dk_at dksX4_init_1 0 rfl rfl)
theorem dX4_init_27 : decode cX4_init 27 = .ok (.aload_n 0, 1) := dk_42 (dk_at dksX4_init_1 3 rfl rfl)
theorem dX4_init_28 : decode cX4_init 28 = .ok (.iconst 2, 1) := dk_5 (dk_at dksX4_init_1 4 rfl rfl)
theorem dX4_init_29 : decode cX4_init 29 = .ok (.newarray .int, 2) := dk_188_10 (dk_at dksX4_init_1 5 rfl rfl)
theorem dX4_init_31 : decode cX4_init 31 = .ok (.putfield 20, 3) := dk_181 0 20 (dk_at dksX4_init_1 7 rfl rfl)
theorem dX4_init_34 : decode cX4_init 34 = .ok (.aload_n 0, 1) := dk_42 (dk_at dksX4_init_1 10 rfl rfl)
theorem dX4_init_35 : decode cX4_init 35 = .ok (.iconst 2, 1) := dk_5 (dk_at dksX4_init_1 11 rfl rfl)
theorem dX4_init_36 : decode cX4_init 36 = .ok (.newarray .int, 2) := dk_188_10 (dk_at dksX4_init_1 12 rfl rfl)
theorem dX4_init_38 : decode cX4_init 38 = .ok (.putfield 24, 3) := dk_181 0 24 (dk_at dksX4_init_1 14 rfl rfl)
theorem dX4_init_41 : decode cX4_init 41 = .ok (.aload_n 0, 1) := dk_42 (dk_at dksX4_init_1 17 rfl rfl)
theorem dX4_init_42 : decode cX4_init 42 = .ok (.iconst 2, 1) := dk_5 (dk_at dksX4_init_1 18 rfl rfl)
theorem dX4_init_43 : decode cX4_init 43 = .ok (.newarray .int, 2) := dk_188_10 (dk_at dksX4_init_1 19 rfl rfl)
theorem dX4_init_45 : decode cX4_init 45 = .ok (.putfield 27, 3) := dk_181 0 27 (dk_at dksX4_init_1 21 rfl rfl)
theorem dX4_init_48 : decode cX4_init 48 = .ok (.aload_n 0, 1) := dk_42 (dk_at dksX4_init_2 0 rfl rfl)
theorem dX4_init_49 : decode cX4_init 49 = .ok (.iconst 2, 1) := dk_5 (dk_at dksX4_init_2 1 rfl rfl)
theorem dX4_init_50 : decode cX4_init 50 = .ok (.newarray .int, 2) := dk_188_10 (dk_at dksX4_init_2 2 rfl rfl)
theorem dX4_init_52 : decode cX4_init 52 = .ok (.putfield 30, 3) := dk_181 0 30 (dk_at dksX4_init_2 4 rfl rfl)
theorem dX4_init_55 : decode cX4_init 55 = .ok (.aload_n 0, 1) := dk_42 (dk_at dksX4_init_2 7 rfl rfl)
theorem dX4_init_56 : decode cX4_init 56 = .ok (.iconst 2, 1) := dk_5 (dk_at dksX4_init_2 8 rfl rfl)
theorem dX4_init_57 : decode cX4_init 57 = .ok (.newarray .int, 2) := dk_188_10 (dk_at dksX4_init_2 9 rfl rfl)
theorem dX4_init_59 : decode cX4_init 59 = .ok (.putfield 33, 3) := dk_181 0 33 (dk_at dksX4_init_2 11 rfl rfl)
theorem dX4_init_62 : decode cX4_init 62 = .ok (.aload_n 0, 1) := dk_42 (dk_at dksX4_init_2 14 rfl rfl)
theorem dX4_init_63 : decode cX4_init 63 = .ok (.iconst 2, 1) := dk_5 (dk_at dksX4_init_2 15 rfl rfl)
theorem dX4_init_64 : decode cX4_init 64 = .ok (.newarray .int, 2) := dk_188_10 (dk_at dksX4_init_2 16 rfl rfl)
theorem dX4_init_66 : decode cX4_init 66 = .ok (.putfield 36, 3) := dk_181 0 36 (dk_at dksX4_init_2 18 rfl rfl)
theorem dX4_init_69 : decode cX4_init 69 = .ok (.aload_n 0, 1) := dk_42 (dk_at dksX4_init_2 21 rfl rfl)
theorem dX4_init_70 : decode cX4_init 70 = .ok (.iconst 2, 1) := dk_5 (dk_at dksX4_init_2 22 rfl rfl)
theorem dX4_init_71 : decode cX4_init 71 = .ok (.newarray .int, 2) := dk_188_10 (dk_at dksX4_init_3 0 rfl rfl)
theorem dX4_init_73 : decode cX4_init 73 = .ok (.putfield 39, 3) := dk_181 0 39 (dk_at dksX4_init_3 2 rfl rfl)
theorem dX4_init_76 : decode cX4_init 76 = .ok (.aload_n 0, 1) := dk_42 (dk_at dksX4_init_3 5 rfl rfl)
theorem dX4_init_77 : decode cX4_init 77 = .ok (.iconst 2, 1) := dk_5 (dk_at dksX4_init_3 6 rfl rfl)
theorem dX4_init_78 : decode cX4_init 78 = .ok (.newarray .int, 2) := dk_188_10 (dk_at dksX4_init_3 7 rfl rfl)
theorem dX4_init_80 : decode cX4_init 80 = .ok (.putfield 42, 3) := dk_181 0 42 (dk_at dksX4_init_3 9 rfl rfl)
theorem dX4_init_83 : decode cX4_init 83 = .ok (.aload_n 0, 1) := dk_42 (dk_at dksX4_init_3 12 rfl rfl)
theorem dX4_init_84 : decode cX4_init 84 = .ok (.iconst 2, 1) := dk_5 (dk_at dksX4_init_3 13 rfl rfl)
theorem dX4_init_85 : decode cX4_init 85 = .ok (.newarray .int, 2) := dk_188_10 (dk_at dksX4_init_3 14 rfl rfl)
theorem dX4_init_87 : decode cX4_init 87 = .ok (.putfield 45, 3) := dk_181 0 45 (dk_at dksX4_init_3 16 rfl rfl)
theorem dX4_init_90 : decode cX4_init 90 = .ok (.aload_n 0, 1) := dk_42 (dk_at dksX4_init_3 19 rfl rfl)
theorem dX4_init_91 : decode cX4_init 91 = .ok (.bipush 10, 2) := dk_16 10 (dk_at dksX4_init_3 20 rfl rfl)
theorem dX4_init_93 : decode cX4_init 93 = .ok (.newarray .int, 2) := dk_188_10 (dk_at dksX4_init_3 22 rfl rfl)
theorem dX4_init_95 : decode cX4_init 95 = .ok (.putfield 48, 3) := dk_181 0 48 (dk_at dksX4_init_4 0 rfl rfl)
theorem dX4_init_98 : decode cX4_init 98 = .ok (.aload_n 0, 1) := dk_42 (dk_at dksX4_init_4 3 rfl rfl)
theorem dX4_init_99 : decode cX4_init 99 = .ok (.bipush 10, 2) := dk_16 10 (dk_at dksX4_init_4 4 rfl rfl)
theorem dX4_init_101 : decode cX4_init 101 = .ok (.newarray .int, 2) := dk_188_10 (dk_at dksX4_init_4 6 rfl rfl)
theorem dX4_init_103 : decode cX4_init 103 = .ok (.putfield 51, 3) := dk_181 0 51 (dk_at dksX4_init_4 8 rfl rfl)
theorem dX4_init_106 : decode cX4_init 106 = .ok (.aload_n 0, 1) := dk_42 (dk_at dksX4_init_4 11 rfl rfl)
theorem dX4_init_107 : decode cX4_init 107 = .ok (.bipush 30, 2) := dk_16 30 (dk_at dksX4_init_4 12 rfl rfl)
theorem dX4_init_109 : decode cX4_init 109 = .ok (.newarray .int, 2) := dk_188_10 (dk_at dksX4_init_4 14 rfl rfl)
theorem dX4_init_111 : decode cX4_init 111 = .ok (.putfield 54, 3) := dk_181 0 54 (dk_at dksX4_init_4 16 rfl rfl)
theorem dX4_init_114 : decode cX4_init 114 = .ok (.aload_n 0, 1) := dk_42 (dk_at dksX4_init_4 19 rfl rfl)
theorem dX4_init_115 : decode cX4_init 115 = .ok (.bipush 30, 2) := dk_16 30 (dk_at dksX4_init_4 20 rfl rfl)
theorem dX4_init_117 : decode cX4_init 117 = .ok (.newarray .int, 2) := dk_188_10 (dk_at dksX4_init_4 22 rfl rfl)
theorem dX4_init_119 : decode cX4_init 119 = .ok (.putfield 57, 3) := dk_181 0 57 (dk_at dksX4_init_5 0 rfl rfl)
theorem dX4_init_122 : decode cX4_init 122 = .ok (.aload_n 0, 1) := dk_42 (dk_at dksX4_init_5 3 rfl rfl)
theorem dX4_init_123 : decode cX4_init 123 = .ok (.bipush 10, 2) := dk_16 10 (dk_at dksX4_init_5 4 rfl rfl)
theorem dX4_init_125 : decode cX4_init 125 = .ok (.newarray .int, 2) := dk_188_10 (dk_at dksX4_init_5 6 rfl rfl)
theorem dX4_init_127 : decode cX4_init 127 = .ok (.putfield 60, 3) := dk_181 0 60 (dk_at dksX4_init_5 8 rfl rfl)
theorem dX4_init_130 : decode cX4_init 130 = .ok (.aload_n 0, 1) := dk_42 (dk_at dksX4_init_5 11 rfl rfl)
theorem dX4_init_131 : decode cX4_init 131 = .ok (.bipush 10, 2) := dk_16 10 (dk_at dksX4_init_5 12 rfl rfl)
theorem dX4_init_133 : decode cX4_init 133 = .ok (.newarray .int, 2) := dk_188_10 (dk_at dksX4_init_5 14 rfl rfl)
theorem dX4_init_135 : decode cX4_init 135 = .ok (.putfield 63, 3) := dk_181 0 63 (dk_at dksX4_init_5 16 rfl rfl)
theorem dX4_init_138 : decode cX4_init 138 = .ok (.aload_n 0, 1) := dk_42 (dk_at dksX4_init_5 19 rfl rfl)
theorem dX4_init_139 : decode cX4_init 139 = .ok (.bipush 18, 2) := dk_16 18 (dk_at dksX4_init_5 20 rfl rfl)
theorem dX4_init_141 : decode cX4_init 141 = .ok (.newarray .int, 2) := dk_188_10 (dk_at dksX4_init_5 22 rfl rfl)
theorem dX4_init_143 : decode cX4_init 143 = .ok (.putfield 66, 3) := dk_181 0 66 (dk_at dksX4_init_6 0 rfl rfl)
theorem dX4_init_146 : decode cX4_init 146 = .ok (.aload_n 0, 1) := dk_42 (dk_at dksX4_init_6 3 rfl rfl)
theorem dX4_init_147 : decode cX4_init 147 = .ok (.bipush 18, 2) := dk_16 18 (dk_at dksX4_init_6 4 rfl rfl)
theorem dX4_init_149 : decode cX4_init 149 = .ok (.newarray .int, 2) := dk_188_10 (dk_at dksX4_init_6 6 rfl rfl)
theorem dX4_init_151 : decode cX4_init 151 = .ok (.putfield 69, 3) := dk_181 0 69 (dk_at dksX4_init_6 8 rfl rfl)
theorem dX4_init_154 : decode cX4_init 154 = .ok (.aload_n 0, 1) := dk_42 (dk_at dksX4_init_6 11 rfl rfl)
theorem dX4_init_155 : decode cX4_init 155 = .ok (.bipush 10, 2) := dk_16 10 (dk_at dksX4_init_6 12 rfl rfl)
theorem dX4_init_157 : decode cX4_init 157 = .ok (.newarray .int, 2) := dk_188_10 (dk_at dksX4_init_6 14 rfl rfl)
theorem dX4_init_159 : decode cX4_init 159 = .ok (.putfield 72, 3) := dk_181 0 72 (dk_at dksX4_init_6 16 rfl rfl)
theorem dX4_init_162 : decode cX4_init 162 = .ok (.aload_n 0, 1) := dk_42 (dk_at dksX4_init_6 19 rfl rfl)
theorem dX4_init_163 : decode cX4_init 163 = .ok (.iconst 2, 1) := dk_5 (dk_at dksX4_init_6 20 rfl rfl)
theorem dX4_init_164 : decode cX4_init 164 = .ok (.newarray .int, 2) := dk_188_10 (dk_at dksX4_init_6 21 rfl rfl)
theorem dX4_init_166 : decode cX4_init 166 = .ok (.putfield 75, 3) := dk_181 0 75 (dk_at dksX4_init_7 0 rfl rfl)
theorem dX4_init_169 : decode cX4_init 169 = .ok (.aload_n 0, 1) := dk_42 (dk_at dksX4_init_7 3 rfl rfl)
theorem dX4_init_170 : decode cX4_init 170 = .ok (.iconst 2, 1) := dk_5 (dk_at dksX4_init_7 4 rfl rfl)
theorem dX4_init_171 : decode cX4_init 171 = .ok (.newarray .int, 2) := dk_188_10 (dk_at dksX4_init_7 5 rfl rfl)
theorem dX4_init_173 : decode cX4_init 173 = .ok (.putfield 78, 3) := dk_181 0 78 (dk_at dksX4_init_7 7 rfl rfl)
theorem dX4_init_176 : decode cX4_init 176 = .ok (.aload_n 0, 1) := dk_42 (dk_at dksX4_init_7 10 rfl rfl)
theorem dX4_init_177 : decode cX4_init 177 = .ok (.iconst 2, 1) := dk_5 (dk_at dksX4_init_7 11 rfl rfl)
theorem dX4_init_178 : decode cX4_init 178 = .ok (.newarray .boolean, 2) := dk_188_4 (dk_at dksX4_init_7 12 rfl rfl)
theorem dX4_init_180 : decode cX4_init 180 = .ok (.putfield 81, 3) := dk_181 0 81 (dk_at dksX4_init_7 14 rfl rfl)
theorem dX4_init_183 : decode cX4_init 183 = .ok (.aload_n 0, 1) := dk_42 (dk_at dksX4_init_7 17 rfl rfl)
theorem dX4_init_184 : decode cX4_init 184 = .ok (.iconst 2, 1) := dk_5 (dk_at dksX4_init_7 18 rfl rfl)
theorem dX4_init_185 : decode cX4_init 185 = .ok (.newarray .boolean, 2) := dk_188_4 (dk_at dksX4_init_7 19 rfl rfl)
theorem dX4_init_187 : decode cX4_init 187 = .ok (.putfield 85, 3) := dk_181 0 85 (dk_at dksX4_init_7 21 rfl rfl)
theorem dX4_init_190 : decode cX4_init 190 = .ok (.aload_n 0, 1) := dk_42 (dk_at dksX4_init_8 0 rfl rfl)
theorem dX4_init_191 : decode cX4_init 191 = .ok (.iconst 2, 1) := dk_5 (dk_at dksX4_init_8 1 rfl rfl)
theorem dX4_init_192 : decode cX4_init 192 = .ok (.newarray .boolean, 2) := dk_188_4 (dk_at dksX4_init_8 2 rfl rfl)
theorem dX4_init_194 : decode cX4_init 194 = .ok (.putfield 88, 3) := dk_181 0 88 (dk_at dksX4_init_8 4 rfl rfl)
theorem dX4_init_197 : decode cX4_init 197 = .ok (.aload_n 0, 1) := dk_42 (dk_at dksX4_init_8 7 rfl rfl)
theorem dX4_init_198 : decode cX4_init 198 = .ok (.bipush 6, 2) := dk_16 6 (dk_at dksX4_init_8 8 rfl rfl)
theorem dX4_init_200 : decode cX4_init 200 = .ok (.newarray .long, 2) := dk_188_11 (dk_at dksX4_init_8 10 rfl rfl)
theorem dX4_init_202 : decode cX4_init 202 = .ok (.putfield 91, 3) := dk_181 0 91 (dk_at dksX4_init_8 12 rfl rfl)
theorem dX4_init_205 : decode cX4_init 205 = .ok (.aload_n 0, 1) := dk_42 (dk_at dksX4_init_8 15 rfl rfl)
theorem dX4_init_206 : decode cX4_init 206 = .ok (.bipush 10, 2) := dk_16 10 (dk_at dksX4_init_8 16 rfl rfl)
theorem dX4_init_208 : decode cX4_init 208 = .ok (.newarray .long, 2) := dk_188_11 (dk_at dksX4_init_8 18 rfl rfl)
theorem dX4_init_210 : decode cX4_init 210 = .ok (.putfield 95, 3) := dk_181 0 95 (dk_at dksX4_init_8 20 rfl rfl)
theorem dX4_init_213 : decode cX4_init 213 = .ok (.aload_n 0, 1) := dk_42 (dk_at dksX4_init_8 23 rfl rfl)
theorem dX4_init_214 : decode cX4_init 214 = .ok (.sipush 1120, 3) := dk_17 4 96 (dk_at dksX4_init_9 0 rfl rfl)
theorem dX4_init_217 : decode cX4_init 217 = .ok (.newarray .int, 2) := dk_188_10 (dk_at dksX4_init_9 3 rfl rfl)
theorem dX4_init_219 : decode cX4_init 219 = .ok (.putfield 98, 3) := dk_181 0 98 (dk_at dksX4_init_9 5 rfl rfl)
theorem dX4_init_222 : decode cX4_init 222 = .ok (.aload_n 0, 1) := dk_42 (dk_at dksX4_init_9 8 rfl rfl)
theorem dX4_init_223 : decode cX4_init 223 = .ok (.sipush 1120, 3) := dk_17 4 96 (dk_at dksX4_init_9 9 rfl rfl)
theorem dX4_init_226 : decode cX4_init 226 = .ok (.newarray .int, 2) := dk_188_10 (dk_at dksX4_init_9 12 rfl rfl)
theorem dX4_init_228 : decode cX4_init 228 = .ok (.putfield 101, 3) := dk_181 0 101 (dk_at dksX4_init_9 14 rfl rfl)
theorem dX4_init_231 : decode cX4_init 231 = .ok (.aload_n 0, 1) := dk_42 (dk_at dksX4_init_9 17 rfl rfl)
theorem dX4_init_232 : decode cX4_init 232 = .ok (.bipush 90, 2) := dk_16 90 (dk_at dksX4_init_9 18 rfl rfl)
theorem dX4_init_234 : decode cX4_init 234 = .ok (.newarray .int, 2) := dk_188_10 (dk_at dksX4_init_9 20 rfl rfl)
theorem dX4_init_236 : decode cX4_init 236 = .ok (.putfield 104, 3) := dk_181 0 104 (dk_at dksX4_init_10 0 rfl rfl)
theorem dX4_init_239 : decode cX4_init 239 = .ok (.aload_n 0, 1) := dk_42 (dk_at dksX4_init_10 3 rfl rfl)
theorem dX4_init_240 : decode cX4_init 240 = .ok (.bipush 90, 2) := dk_16 90 (dk_at dksX4_init_10 4 rfl rfl)
theorem dX4_init_242 : decode cX4_init 242 = .ok (.newarray .int, 2) := dk_188_10 (dk_at dksX4_init_10 6 rfl rfl)
theorem dX4_init_244 : decode cX4_init 244 = .ok (.putfield 107, 3) := dk_181 0 107 (dk_at dksX4_init_10 8 rfl rfl)
theorem dX4_init_247 : decode cX4_init 247 = .ok (.aload_n 0, 1) := dk_42 (dk_at dksX4_init_10 11 rfl rfl)
theorem dX4_init_248 : decode cX4_init 248 = .ok (.bipush 60, 2) := dk_16 60 (dk_at dksX4_init_10 12 rfl rfl)
theorem dX4_init_250 : decode cX4_init 250 = .ok (.newarray .int, 2) := dk_188_10 (dk_at dksX4_init_10 14 rfl rfl)
theorem dX4_init_252 : decode cX4_init 252 = .ok (.putfield 110, 3) := dk_181 0 110 (dk_at dksX4_init_10 16 rfl rfl)
theorem dX4_init_255 : decode cX4_init 255 = .ok (.aload_n 0, 1) := dk_42 (dk_at dksX4_init_10 19 rfl rfl)
theorem dX4_init_256 : decode cX4_init 256 = .ok (.bipush 42, 2) := dk_16 42 (dk_at dksX4_init_10 20 rfl rfl)
theorem dX4_init_258 : decode cX4_init 258 = .ok (.newarray .int, 2) := dk_188_10 (dk_at dksX4_init_10 22 rfl rfl)
theorem dX4_init_260 : decode cX4_init 260 = .ok (.putfield 113, 3) := dk_181 0 113 (dk_at dksX4_init_11 0 rfl rfl)
theorem dX4_init_263 : decode cX4_init 263 = .ok (.aload_n 0, 1) := dk_42 (dk_at dksX4_init_11 3 rfl rfl)
theorem dX4_init_264 : decode cX4_init 264 = .ok (.sipush 1722, 3) := dk_17 6 186 (dk_at dksX4_init_11 4 rfl rfl)
theorem dX4_init_267 : decode cX4_init 267 = .ok (.newarray .int, 2) := dk_188_10 (dk_at dksX4_init_11 7 rfl rfl)
theorem dX4_init_269 : decode cX4_init 269 = .ok (.putfield 116, 3) := dk_181 0 116 (dk_at dksX4_init_11 9 rfl rfl)
theorem dX4_init_272 : decode cX4_init 272 = .ok (.aload_n 0, 1) := dk_42 (dk_at dksX4_init_11 12 rfl rfl)
theorem dX4_init_273 : decode cX4_init 273 = .ok (.iconst 3, 1) := dk_6 (dk_at dksX4_init_11 13 rfl rfl)
theorem dX4_init_274 : decode cX4_init 274 = .ok (.newarray .int, 2) := dk_188_10 (dk_at dksX4_init_11 14 rfl rfl)
theorem dX4_init_276 : decode cX4_init 276 = .ok (.putfield 119, 3) := dk_181 0 119 (dk_at dksX4_init_11 16 rfl rfl)
theorem dX4_init_279 : decode cX4_init 279 = .ok (.aload_n 0, 1) := dk_42 (dk_at dksX4_init_11 19 rfl rfl)
theorem dX4_init_280 : decode cX4_init 280 = .ok (.iconst 3, 1) := dk_6 (dk_at dksX4_init_11 20 rfl rfl)
theorem dX4_init_281 : decode cX4_init 281 = .ok (.newarray .int, 2) := dk_188_10 (dk_at dksX4_init_11 21 rfl rfl)
theorem dX4_init_283 : decode cX4_init 283 = .ok (.putfield 122, 3) := dk_181 0 122 (dk_at dksX4_init_12 0 rfl rfl)
theorem dX4_init_286 : decode cX4_init 286 = .ok (.aload_n 0, 1) := dk_42 (dk_at dksX4_init_12 3 rfl rfl)
theorem dX4_init_287 : decode cX4_init 287 = .ok (.bipush 8, 2) := dk_16 8 (dk_at dksX4_init_12 4 rfl rfl)
theorem dX4_init_289 : decode cX4_init 289 = .ok (.newarray .int, 2) := dk_188_10 (dk_at dksX4_init_12 6 rfl rfl)
theorem dX4_init_291 : decode cX4_init 291 = .ok (.putfield 125, 3) := dk_181 0 125 (dk_at dksX4_init_12 8 rfl rfl)
theorem dX4_init_294 : decode cX4_init 294 = .ok (.aload_n 0, 1) := dk_42 (dk_at dksX4_init_12 11 rfl rfl)
theorem dX4_init_295 : decode cX4_init 295 = .ok (.iconst 3, 1) := dk_6 (dk_at dksX4_init_12 12 rfl rfl)
theorem dX4_init_296 : decode cX4_init 296 = .ok (.newarray .int, 2) := dk_188_10 (dk_at dksX4_init_12 13 rfl rfl)
theorem dX4_init_298 : decode cX4_init 298 = .ok (.putfield 128, 3) := dk_181 0 128 (dk_at dksX4_init_12 15 rfl rfl)
theorem dX4_init_301 : decode cX4_init 301 = .ok (.aload_n 0, 1) := dk_42 (dk_at dksX4_init_12 18 rfl rfl)
theorem dX4_init_302 : decode cX4_init 302 = .ok (.iconst 3, 1) := dk_6 (dk_at dksX4_init_12 19 rfl rfl)
theorem dX4_init_303 : decode cX4_init 303 = .ok (.newarray .int, 2) := dk_188_10 (dk_at dksX4_init_12 20 rfl rfl)
theorem dX4_init_305 : decode cX4_init 305 = .ok (.putfield 131, 3) := dk_181 0 131 (dk_at dksX4_init_13 0 rfl rfl)
theorem dX4_init_308 : decode cX4_init 308 = .ok (.aload_n 0, 1) := dk_42 (dk_at dksX4_init_13 3 rfl rfl)
theorem dX4_init_309 : decode cX4_init 309 = .ok (.iconst 3, 1) := dk_6 (dk_at dksX4_init_13 4 rfl rfl)
theorem dX4_init_310 : decode cX4_init 310 = .ok (.newarray .int, 2) := dk_188_10 (dk_at dksX4_init_13 5 rfl rfl)
theorem dX4_init_312 : decode cX4_init 312 = .ok (.putfield 134, 3) := dk_181 0 134 (dk_at dksX4_init_13 7 rfl rfl)
theorem dX4_init_315 : decode cX4_init 315 = .ok (.aload_n 0, 1) := dk_42 (dk_at dksX4_init_13 10 rfl rfl)
theorem dX4_init_316 : decode cX4_init 316 = .ok (.iconst 3, 1) := dk_6 (dk_at dksX4_init_13 11 rfl rfl)
theorem dX4_init_317 : decode cX4_init 317 = .ok (.newarray .int, 2) := dk_188_10 (dk_at dksX4_init_13 12 rfl rfl)
theorem dX4_init_319 : decode cX4_init 319 = .ok (.putfield 137, 3) := dk_181 0 137 (dk_at dksX4_init_13 14 rfl rfl)
theorem dX4_init_322 : decode cX4_init 322 = .ok (.aload_n 0, 1) := dk_42 (dk_at dksX4_init_13 17 rfl rfl)
theorem dX4_init_323 : decode cX4_init 323 = .ok (.bipush 42, 2) := dk_16 42 (dk_at dksX4_init_13 18 rfl rfl)
theorem dX4_init_325 : decode cX4_init 325 = .ok (.newarray .int, 2) := dk_188_10 (dk_at dksX4_init_13 20 rfl rfl)
theorem dX4_init_327 : decode cX4_init 327 = .ok (.putfield 140, 3) := dk_181 0 140 (dk_at dksX4_init_14 0 rfl rfl)
theorem dX4_init_330 : decode cX4_init 330 = .ok (.aload_n 0, 1) := dk_42 (dk_at dksX4_init_14 3 rfl rfl)
theorem dX4_init_331 : decode cX4_init 331 = .ok (.bipush 8, 2) := dk_16 8 (dk_at dksX4_init_14 4 rfl rfl)
theorem dX4_init_333 : decode cX4_init 333 = .ok (.newarray .int, 2) := dk_188_10 (dk_at dksX4_init_14 6 rfl rfl)
theorem dX4_init_335 : decode cX4_init 335 = .ok (.putfield 143, 3) := dk_181 0 143 (dk_at dksX4_init_14 8 rfl rfl)
theorem dX4_init_338 : decode cX4_init 338 = .ok (.aload_n 0, 1) := dk_42 (dk_at dksX4_init_14 11 rfl rfl)
theorem dX4_init_339 : decode cX4_init 339 = .ok (.bipush 15, 2) := dk_16 15 (dk_at dksX4_init_14 12 rfl rfl)
theorem dX4_init_341 : decode cX4_init 341 = .ok (.newarray .int, 2) := dk_188_10 (dk_at dksX4_init_14 14 rfl rfl)
theorem dX4_init_343 : decode cX4_init 343 = .ok (.putfield 146, 3) := dk_181 0 146 (dk_at dksX4_init_14 16 rfl rfl)
theorem dX4_init_346 : decode cX4_init 346 = .ok (.aload_n 0, 1) := dk_42 (dk_at dksX4_init_14 19 rfl rfl)
theorem dX4_init_347 : decode cX4_init 347 = .ok (.bipush 30, 2) := dk_16 30 (dk_at dksX4_init_14 20 rfl rfl)
theorem dX4_init_349 : decode cX4_init 349 = .ok (.newarray .int, 2) := dk_188_10 (dk_at dksX4_init_14 22 rfl rfl)
theorem dX4_init_351 : decode cX4_init 351 = .ok (.putfield 149, 3) := dk_181 0 149 (dk_at dksX4_init_15 0 rfl rfl)
theorem dX4_init_354 : decode cX4_init 354 = .ok (.aload_n 0, 1) := dk_42 (dk_at dksX4_init_15 3 rfl rfl)
theorem dX4_init_355 : decode cX4_init 355 = .ok (.bipush 30, 2) := dk_16 30 (dk_at dksX4_init_15 4 rfl rfl)
theorem dX4_init_357 : decode cX4_init 357 = .ok (.newarray .int, 2) := dk_188_10 (dk_at dksX4_init_15 6 rfl rfl)
theorem dX4_init_359 : decode cX4_init 359 = .ok (.putfield 152, 3) := dk_181 0 152 (dk_at dksX4_init_15 8 rfl rfl)
theorem dX4_init_362 : decode cX4_init 362 = .ok (.aload_n 0, 1) := dk_42 (dk_at dksX4_init_15 11 rfl rfl)
theorem dX4_init_363 : decode cX4_init 363 = .ok (.bipush 30, 2) := dk_16 30 (dk_at dksX4_init_15 12 rfl rfl)
theorem dX4_init_365 : decode cX4_init 365 = .ok (.newarray .int, 2) := dk_188_10 (dk_at dksX4_init_15 14 rfl rfl)
theorem dX4_init_367 : decode cX4_init 367 = .ok (.putfield 155, 3) := dk_181 0 155 (dk_at dksX4_init_15 16 rfl rfl)
theorem dX4_init_370 : decode cX4_init 370 = .ok (.aload_n 0, 1) := dk_42 (dk_at dksX4_init_15 19 rfl rfl)
theorem dX4_init_371 : decode cX4_init 371 = .ok (.bipush 30, 2) := dk_16 30 (dk_at dksX4_init_15 20 rfl rfl)
theorem dX4_init_373 : decode cX4_init 373 = .ok (.newarray .int, 2) := dk_188_10 (dk_at dksX4_init_15 22 rfl rfl)
theorem dX4_init_375 : decode cX4_init 375 = .ok (.putfield 158, 3) := dk_181 0 158 (dk_at dksX4_init_16 0 rfl rfl)
theorem dX4_init_378 : decode cX4_init 378 = .ok (.aload_n 0, 1) := dk_42 (dk_at dksX4_init_16 3 rfl rfl)
theorem dX4_init_379 : decode cX4_init 379 = .ok (.bipush 30, 2) := dk_16 30 (dk_at dksX4_init_16 4 rfl rfl)
theorem dX4_init_381 : decode cX4_init 381 = .ok (.newarray .int, 2) := dk_188_10 (dk_at dksX4_init_16 6 rfl rfl)
theorem dX4_init_383 : decode cX4_init 383 = .ok (.putfield 161, 3) := dk_181 0 161 (dk_at dksX4_init_16 8 rfl rfl)
theorem dX4_init_386 : decode cX4_init 386 = .ok (.aload_n 0, 1) := dk_42 (dk_at dksX4_init_16 11 rfl rfl)
theorem dX4_init_387 : decode cX4_init 387 = .ok (.bipush 30, 2) := dk_16 30 (dk_at dksX4_init_16 12 rfl rfl)
theorem dX4_init_389 : decode cX4_init 389 = .ok (.newarray .int, 2) := dk_188_10 (dk_at dksX4_init_16 14 rfl rfl)
theorem dX4_init_391 : decode cX4_init 391 = .ok (.putfield 164, 3) := dk_181 0 164 (dk_at dksX4_init_16 16 rfl rfl)
theorem dX4_init_394 : decode cX4_init 394 = .ok (.aload_n 0, 1) := dk_42 (dk_at dksX4_init_16 19 rfl rfl)
theorem dX4_init_395 : decode cX4_init 395 = .ok (.iconst 5, 1) := dk_8 (dk_at dksX4_init_16 20 rfl rfl)
theorem dX4_init_396 : decode cX4_init 396 = .ok (.newarray .int, 2) := dk_188_10 (dk_at dksX4_init_16 21 rfl rfl)
theorem dX4_init_398 : decode cX4_init 398 = .ok (.putfield 167, 3) := dk_181 0 167 (dk_at dksX4_init_17 0 rfl rfl)
theorem dX4_init_401 : decode cX4_init 401 = .ok (.aload_n 0, 1) := dk_42 (dk_at dksX4_init_17 3 rfl rfl)
theorem dX4_init_402 : decode cX4_init 402 = .ok (.bipush 25, 2) := dk_16 25 (dk_at dksX4_init_17 4 rfl rfl)
theorem dX4_init_404 : decode cX4_init 404 = .ok (.newarray .int, 2) := dk_188_10 (dk_at dksX4_init_17 6 rfl rfl)
theorem dX4_init_406 : decode cX4_init 406 = .ok (.putfield 170, 3) := dk_181 0 170 (dk_at dksX4_init_17 8 rfl rfl)
theorem dX4_init_409 : decode cX4_init 409 = .ok (.aload_n 0, 1) := dk_42 (dk_at dksX4_init_17 11 rfl rfl)
theorem dX4_init_410 : decode cX4_init 410 = .ok (.bipush 126, 2) := dk_16 126 (dk_at dksX4_init_17 12 rfl rfl)
theorem dX4_init_412 : decode cX4_init 412 = .ok (.newarray .int, 2) := dk_188_10 (dk_at dksX4_init_17 14 rfl rfl)
theorem dX4_init_414 : decode cX4_init 414 = .ok (.putfield 173, 3) := dk_181 0 173 (dk_at dksX4_init_17 16 rfl rfl)
theorem dX4_init_417 : decode cX4_init 417 = .ok (.aload_n 0, 1) := dk_42 (dk_at dksX4_init_17 19 rfl rfl)
theorem dX4_init_418 : decode cX4_init 418 = .ok (.iconst 3, 1) := dk_6 (dk_at dksX4_init_17 20 rfl rfl)
theorem dX4_init_419 : decode cX4_init 419 = .ok (.newarray .boolean, 2) := dk_188_4 (dk_at dksX4_init_17 21 rfl rfl)
theorem dX4_init_421 : decode cX4_init 421 = .ok (.putfield 176, 3) := dk_181 0 176 (dk_at dksX4_init_18 0 rfl rfl)
theorem dX4_init_424 : decode cX4_init 424 = .ok (.aload_n 0, 1) := dk_42 (dk_at dksX4_init_18 3 rfl rfl)
theorem dX4_init_425 : decode cX4_init 425 = .ok (.invokevirtual 179, 3) := dk_182 0 179 (dk_at dksX4_init_18 4 rfl rfl)
theorem dX4_init_428 : decode cX4_init 428 = .ok (.aload_n 0, 1) := dk_42 (dk_at dksX4_init_18 7 rfl rfl)
theorem dX4_init_429 : decode cX4_init 429 = .ok (.invokevirtual 182, 3) := dk_182 0 182 (dk_at dksX4_init_18 8 rfl rfl)
theorem dX4_init_432 : decode cX4_init 432 = .ok (.return_, 1) := dk_177 (dk_at dksX4_init_18 11 rfl rfl)
abbrev cX4_clearBank : ByteArray := prog_22_method_16_code
def yX4_clearBank : MethodName := ⟨RX4, "clearBank", "()V"⟩
def dkwX4_clearBank_7 : List UInt8 := [177]
abbrev dktX4_clearBank_7 : List UInt8 := dkwX4_clearBank_7 ++ []
def dkwX4_clearBank_6 : List UInt8 := [180, 0, 66, 27, 3, 79, 132, 1, 1, 167, 255, 232, 42, 17, 2, 48, 42, 180, 1, 36, 104, 181, 1, 39]
abbrev dktX4_clearBank_6 : List UInt8 := dkwX4_clearBank_6 ++ dktX4_clearBank_7
def dkwX4_clearBank_5 : List UInt8 := [84, 16, 9, 42, 180, 1, 36, 104, 60, 27, 16, 9, 42, 180, 1, 36, 104, 16, 9, 96, 162, 0, 16, 42]
abbrev dktX4_clearBank_5 : List UInt8 := dkwX4_clearBank_5 ++ dktX4_clearBank_6
def dkwX4_clearBank_4 : List UInt8 := [180, 1, 36, 3, 84, 42, 180, 0, 85, 42, 180, 1, 36, 3, 84, 42, 180, 0, 88, 42, 180, 1, 36, 3]
abbrev dktX4_clearBank_4 : List UInt8 := dkwX4_clearBank_4 ++ dktX4_clearBank_5
def dkwX4_clearBank_3 : List UInt8 := [180, 0, 42, 42, 180, 1, 36, 3, 79, 42, 180, 0, 45, 42, 180, 1, 36, 3, 79, 42, 180, 0, 81, 42]
abbrev dktX4_clearBank_3 : List UInt8 := dkwX4_clearBank_3 ++ dktX4_clearBank_4
def dkwX4_clearBank_2 : List UInt8 := [3, 79, 42, 180, 0, 36, 42, 180, 1, 36, 16, 6, 79, 42, 180, 0, 39, 42, 180, 1, 36, 3, 79, 42]
abbrev dktX4_clearBank_2 : List UInt8 := dkwX4_clearBank_2 ++ dktX4_clearBank_3
def dkwX4_clearBank_1 : List UInt8 := [42, 180, 1, 36, 3, 79, 42, 180, 0, 30, 42, 180, 1, 36, 3, 79, 42, 180, 0, 33, 42, 180, 1, 36]
abbrev dktX4_clearBank_1 : List UInt8 := dkwX4_clearBank_1 ++ dktX4_clearBank_2
def dkwX4_clearBank_0 : List UInt8 := [42, 180, 0, 20, 42, 180, 1, 36, 3, 79, 42, 180, 0, 24, 42, 180, 1, 36, 3, 79, 42, 180, 0, 27]
abbrev dktX4_clearBank_0 : List UInt8 := dkwX4_clearBank_0 ++ dktX4_clearBank_1
theorem dksX4_clearBank_0 : cX4_clearBank.data.toList.drop 0 = dktX4_clearBank_0 := by decide +kernel
theorem dksX4_clearBank_1 : cX4_clearBank.data.toList.drop 24 = dktX4_clearBank_1 := dk_seg dksX4_clearBank_0 24 rfl rfl
theorem dksX4_clearBank_2 : cX4_clearBank.data.toList.drop 48 = dktX4_clearBank_2 := dk_seg dksX4_clearBank_1 24 rfl rfl
theorem dksX4_clearBank_3 : cX4_clearBank.data.toList.drop 72 = dktX4_clearBank_3 := dk_seg dksX4_clearBank_2 24 rfl rfl
theorem dksX4_clearBank_4 : cX4_clearBank.data.toList.drop 96 = dktX4_clearBank_4 := dk_seg dksX4_clearBank_3 24 rfl rfl
theorem dksX4_clearBank_5 : cX4_clearBank.data.toList.drop 120 = dktX4_clearBank_5 := dk_seg dksX4_clearBank_4 24 rfl rfl
theorem dksX4_clearBank_6 : cX4_clearBank.data.toList.drop 144 = dktX4_clearBank_6 := dk_seg dksX4_clearBank_5 24 rfl rfl
theorem dksX4_clearBank_7 : cX4_clearBank.data.toList.drop 168 = dktX4_clearBank_7 := dk_seg dksX4_clearBank_6 24 rfl rfl
theorem dX4_clearBank_0 : decode cX4_clearBank 0 = .ok (.aload_n 0, 1) := dk_42 (dk_at dksX4_clearBank_0 0 rfl rfl)
theorem dX4_clearBank_1 : decode cX4_clearBank 1 = .ok (.getfield 20, 3) := dk_180 0 20 (dk_at dksX4_clearBank_0 1 rfl rfl)
theorem dX4_clearBank_4 : decode cX4_clearBank 4 = .ok (.aload_n 0, 1) := dk_42 (dk_at dksX4_clearBank_0 4 rfl rfl)
theorem dX4_clearBank_5 : decode cX4_clearBank 5 = .ok (.getfield 292, 3) := dk_180 1 36 (dk_at dksX4_clearBank_0 5 rfl rfl)
theorem dX4_clearBank_8 : decode cX4_clearBank 8 = .ok (.iconst 0, 1) := dk_3 (dk_at dksX4_clearBank_0 8 rfl rfl)
theorem dX4_clearBank_9 : decode cX4_clearBank 9 = .ok (.iastore, 1) := dk_79 (dk_at dksX4_clearBank_0 9 rfl rfl)
theorem dX4_clearBank_10 : decode cX4_clearBank 10 = .ok (.aload_n 0, 1) := dk_42 (dk_at dksX4_clearBank_0 10 rfl rfl)
theorem dX4_clearBank_11 : decode cX4_clearBank 11 = .ok (.getfield 24, 3) := dk_180 0 24 (dk_at dksX4_clearBank_0 11 rfl rfl)
theorem dX4_clearBank_14 : decode cX4_clearBank 14 = .ok (.aload_n 0, 1) := dk_42 (dk_at dksX4_clearBank_0 14 rfl rfl)
theorem dX4_clearBank_15 : decode cX4_clearBank 15 = .ok (.getfield 292, 3) := dk_180 1 36 (dk_at dksX4_clearBank_0 15 rfl rfl)
theorem dX4_clearBank_18 : decode cX4_clearBank 18 = .ok (.iconst 0, 1) := dk_3 (dk_at dksX4_clearBank_0 18 rfl rfl)
theorem dX4_clearBank_19 : decode cX4_clearBank 19 = .ok (.iastore, 1) := dk_79 (dk_at dksX4_clearBank_0 19 rfl rfl)
theorem dX4_clearBank_20 : decode cX4_clearBank 20 = .ok (.aload_n 0, 1) := dk_42 (dk_at dksX4_clearBank_0 20 rfl rfl)
theorem dX4_clearBank_21 : decode cX4_clearBank 21 = .ok (.getfield 27, 3) := dk_180 0 27 (dk_at dksX4_clearBank_0 21 rfl rfl)
theorem dX4_clearBank_24 : decode cX4_clearBank 24 = .ok (.aload_n 0, 1) := dk_42 (dk_at dksX4_clearBank_1 0 rfl rfl)
theorem dX4_clearBank_25 : decode cX4_clearBank 25 = .ok (.getfield 292, 3) := dk_180 1 36 (dk_at dksX4_clearBank_1 1 rfl rfl)
theorem dX4_clearBank_28 : decode cX4_clearBank 28 = .ok (.iconst 0, 1) := dk_3 (dk_at dksX4_clearBank_1 4 rfl rfl)
theorem dX4_clearBank_29 : decode cX4_clearBank 29 = .ok (.iastore, 1) := dk_79 (dk_at dksX4_clearBank_1 5 rfl rfl)
theorem dX4_clearBank_30 : decode cX4_clearBank 30 = .ok (.aload_n 0, 1) := dk_42 (dk_at dksX4_clearBank_1 6 rfl rfl)
theorem dX4_clearBank_31 : decode cX4_clearBank 31 = .ok (.getfield 30, 3) := dk_180 0 30 (dk_at dksX4_clearBank_1 7 rfl rfl)
theorem dX4_clearBank_34 : decode cX4_clearBank 34 = .ok (.aload_n 0, 1) := dk_42 (dk_at dksX4_clearBank_1 10 rfl rfl)
theorem dX4_clearBank_35 : decode cX4_clearBank 35 = .ok (.getfield 292, 3) := dk_180 1 36 (dk_at dksX4_clearBank_1 11 rfl rfl)
theorem dX4_clearBank_38 : decode cX4_clearBank 38 = .ok (.iconst 0, 1) := dk_3 (dk_at dksX4_clearBank_1 14 rfl rfl)
theorem dX4_clearBank_39 : decode cX4_clearBank 39 = .ok (.iastore, 1) := dk_79 (dk_at dksX4_clearBank_1 15 rfl rfl)
theorem dX4_clearBank_40 : decode cX4_clearBank 40 = .ok (.aload_n 0, 1) := dk_42 (dk_at dksX4_clearBank_1 16 rfl rfl)
theorem dX4_clearBank_41 : decode cX4_clearBank 41 = .ok (.getfield 33, 3) := dk_180 0 33 (dk_at dksX4_clearBank_1 17 rfl rfl)
theorem dX4_clearBank_44 : decode cX4_clearBank 44 = .ok (.aload_n 0, 1) := dk_42 (dk_at dksX4_clearBank_1 20 rfl rfl)
theorem dX4_clearBank_45 : decode cX4_clearBank 45 = .ok (.getfield 292, 3) := dk_180 1 36 (dk_at dksX4_clearBank_1 21 rfl rfl)
theorem dX4_clearBank_48 : decode cX4_clearBank 48 = .ok (.iconst 0, 1) := dk_3 (dk_at dksX4_clearBank_2 0 rfl rfl)
theorem dX4_clearBank_49 : decode cX4_clearBank 49 = .ok (.iastore, 1) := dk_79 (dk_at dksX4_clearBank_2 1 rfl rfl)
theorem dX4_clearBank_50 : decode cX4_clearBank 50 = .ok (.aload_n 0, 1) := dk_42 (dk_at dksX4_clearBank_2 2 rfl rfl)
theorem dX4_clearBank_51 : decode cX4_clearBank 51 = .ok (.getfield 36, 3) := dk_180 0 36 (dk_at dksX4_clearBank_2 3 rfl rfl)
theorem dX4_clearBank_54 : decode cX4_clearBank 54 = .ok (.aload_n 0, 1) := dk_42 (dk_at dksX4_clearBank_2 6 rfl rfl)
theorem dX4_clearBank_55 : decode cX4_clearBank 55 = .ok (.getfield 292, 3) := dk_180 1 36 (dk_at dksX4_clearBank_2 7 rfl rfl)
theorem dX4_clearBank_58 : decode cX4_clearBank 58 = .ok (.bipush 6, 2) := dk_16 6 (dk_at dksX4_clearBank_2 10 rfl rfl)
theorem dX4_clearBank_60 : decode cX4_clearBank 60 = .ok (.iastore, 1) := dk_79 (dk_at dksX4_clearBank_2 12 rfl rfl)
theorem dX4_clearBank_61 : decode cX4_clearBank 61 = .ok (.aload_n 0, 1) := dk_42 (dk_at dksX4_clearBank_2 13 rfl rfl)
theorem dX4_clearBank_62 : decode cX4_clearBank 62 = .ok (.getfield 39, 3) := dk_180 0 39 (dk_at dksX4_clearBank_2 14 rfl rfl)
theorem dX4_clearBank_65 : decode cX4_clearBank 65 = .ok (.aload_n 0, 1) := dk_42 (dk_at dksX4_clearBank_2 17 rfl rfl)
theorem dX4_clearBank_66 : decode cX4_clearBank 66 = .ok (.getfield 292, 3) := dk_180 1 36 (dk_at dksX4_clearBank_2 18 rfl rfl)
theorem dX4_clearBank_69 : decode cX4_clearBank 69 = .ok (.iconst 0, 1) := dk_3 (dk_at dksX4_clearBank_2 21 rfl rfl)
theorem dX4_clearBank_70 : decode cX4_clearBank 70 = .ok (.iastore, 1) := dk_79 (dk_at dksX4_clearBank_2 22 rfl rfl)
theorem dX4_clearBank_71 : decode cX4_clearBank 71 = .ok (.aload_n 0, 1) := dk_42 (dk_at dksX4_clearBank_2 23 rfl rfl)
theorem dX4_clearBank_72 : decode cX4_clearBank 72 = .ok (.getfield 42, 3) := dk_180 0 42 (dk_at dksX4_clearBank_3 0 rfl rfl)
theorem dX4_clearBank_75 : decode cX4_clearBank 75 = .ok (.aload_n 0, 1) := dk_42 (dk_at dksX4_clearBank_3 3 rfl rfl)
theorem dX4_clearBank_76 : decode cX4_clearBank 76 = .ok (.getfield 292, 3) := dk_180 1 36 (dk_at dksX4_clearBank_3 4 rfl rfl)
theorem dX4_clearBank_79 : decode cX4_clearBank 79 = .ok (.iconst 0, 1) := dk_3 (dk_at dksX4_clearBank_3 7 rfl rfl)
theorem dX4_clearBank_80 : decode cX4_clearBank 80 = .ok (.iastore, 1) := dk_79 (dk_at dksX4_clearBank_3 8 rfl rfl)
theorem dX4_clearBank_81 : decode cX4_clearBank 81 = .ok (.aload_n 0, 1) := dk_42 (dk_at dksX4_clearBank_3 9 rfl rfl)
theorem dX4_clearBank_82 : decode cX4_clearBank 82 = .ok (.getfield 45, 3) := dk_180 0 45 (dk_at dksX4_clearBank_3 10 rfl rfl)
theorem dX4_clearBank_85 : decode cX4_clearBank 85 = .ok (.aload_n 0, 1) := dk_42 (dk_at dksX4_clearBank_3 13 rfl rfl)
theorem dX4_clearBank_86 : decode cX4_clearBank 86 = .ok (.getfield 292, 3) := dk_180 1 36 (dk_at dksX4_clearBank_3 14 rfl rfl)
theorem dX4_clearBank_89 : decode cX4_clearBank 89 = .ok (.iconst 0, 1) := dk_3 (dk_at dksX4_clearBank_3 17 rfl rfl)
theorem dX4_clearBank_90 : decode cX4_clearBank 90 = .ok (.iastore, 1) := dk_79 (dk_at dksX4_clearBank_3 18 rfl rfl)
theorem dX4_clearBank_91 : decode cX4_clearBank 91 = .ok (.aload_n 0, 1) := dk_42 (dk_at dksX4_clearBank_3 19 rfl rfl)
theorem dX4_clearBank_92 : decode cX4_clearBank 92 = .ok (.getfield 81, 3) := dk_180 0 81 (dk_at dksX4_clearBank_3 20 rfl rfl)
theorem dX4_clearBank_95 : decode cX4_clearBank 95 = .ok (.aload_n 0, 1) := dk_42 (dk_at dksX4_clearBank_3 23 rfl rfl)
theorem dX4_clearBank_96 : decode cX4_clearBank 96 = .ok (.getfield 292, 3) := dk_180 1 36 (dk_at dksX4_clearBank_4 0 rfl rfl)
theorem dX4_clearBank_99 : decode cX4_clearBank 99 = .ok (.iconst 0, 1) := dk_3 (dk_at dksX4_clearBank_4 3 rfl rfl)
theorem dX4_clearBank_100 : decode cX4_clearBank 100 = .ok (.bastore, 1) := dk_84 (dk_at dksX4_clearBank_4 4 rfl rfl)
theorem dX4_clearBank_101 : decode cX4_clearBank 101 = .ok (.aload_n 0, 1) := dk_42 (dk_at dksX4_clearBank_4 5 rfl rfl)
theorem dX4_clearBank_102 : decode cX4_clearBank 102 = .ok (.getfield 85, 3) := dk_180 0 85 (dk_at dksX4_clearBank_4 6 rfl rfl)
theorem dX4_clearBank_105 : decode cX4_clearBank 105 = .ok (.aload_n 0, 1) := dk_42 (dk_at dksX4_clearBank_4 9 rfl rfl)
theorem dX4_clearBank_106 : decode cX4_clearBank 106 = .ok (.getfield 292, 3) := dk_180 1 36 (dk_at dksX4_clearBank_4 10 rfl rfl)
theorem dX4_clearBank_109 : decode cX4_clearBank 109 = .ok (.iconst 0, 1) := dk_3 (dk_at dksX4_clearBank_4 13 rfl rfl)
theorem dX4_clearBank_110 : decode cX4_clearBank 110 = .ok (.bastore, 1) := dk_84 (dk_at dksX4_clearBank_4 14 rfl rfl)
theorem dX4_clearBank_111 : decode cX4_clearBank 111 = .ok (.aload_n 0, 1) := dk_42 (dk_at dksX4_clearBank_4 15 rfl rfl)
theorem dX4_clearBank_112 : decode cX4_clearBank 112 = .ok (.getfield 88, 3) := dk_180 0 88 (dk_at dksX4_clearBank_4 16 rfl rfl)
theorem dX4_clearBank_115 : decode cX4_clearBank 115 = .ok (.aload_n 0, 1) := dk_42 (dk_at dksX4_clearBank_4 19 rfl rfl)
theorem dX4_clearBank_116 : decode cX4_clearBank 116 = .ok (.getfield 292, 3) := dk_180 1 36 (dk_at dksX4_clearBank_4 20 rfl rfl)
theorem dX4_clearBank_119 : decode cX4_clearBank 119 = .ok (.iconst 0, 1) := dk_3 (dk_at dksX4_clearBank_4 23 rfl rfl)
theorem dX4_clearBank_120 : decode cX4_clearBank 120 = .ok (.bastore, 1) := dk_84 (dk_at dksX4_clearBank_5 0 rfl rfl)
theorem dX4_clearBank_121 : decode cX4_clearBank 121 = .ok (.bipush 9, 2) := dk_16 9 (dk_at dksX4_clearBank_5 1 rfl rfl)
theorem dX4_clearBank_123 : decode cX4_clearBank 123 = .ok (.aload_n 0, 1) := dk_42 (dk_at dksX4_clearBank_5 3 rfl rfl)
theorem dX4_clearBank_124 : decode cX4_clearBank 124 = .ok (.getfield 292, 3) := dk_180 1 36 (dk_at dksX4_clearBank_5 4 rfl rfl)
theorem dX4_clearBank_127 : decode cX4_clearBank 127 = .ok (.imul, 1) := dk_104 (dk_at dksX4_clearBank_5 7 rfl rfl)
theorem dX4_clearBank_128 : decode cX4_clearBank 128 = .ok (.istore_n 1, 1) := dk_60 (dk_at dksX4_clearBank_5 8 rfl rfl)
theorem dX4_clearBank_129 : decode cX4_clearBank 129 = .ok (.iload_n 1, 1) := dk_27 (dk_at dksX4_clearBank_5 9 rfl rfl)
theorem dX4_clearBank_130 : decode cX4_clearBank 130 = .ok (.bipush 9, 2) := dk_16 9 (dk_at dksX4_clearBank_5 10 rfl rfl)
theorem dX4_clearBank_132 : decode cX4_clearBank 132 = .ok (.aload_n 0, 1) := dk_42 (dk_at dksX4_clearBank_5 12 rfl rfl)
theorem dX4_clearBank_133 : decode cX4_clearBank 133 = .ok (.getfield 292, 3) := dk_180 1 36 (dk_at dksX4_clearBank_5 13 rfl rfl)
theorem dX4_clearBank_136 : decode cX4_clearBank 136 = .ok (.imul, 1) := dk_104 (dk_at dksX4_clearBank_5 16 rfl rfl)
theorem dX4_clearBank_137 : decode cX4_clearBank 137 = .ok (.bipush 9, 2) := dk_16 9 (dk_at dksX4_clearBank_5 17 rfl rfl)
theorem dX4_clearBank_139 : decode cX4_clearBank 139 = .ok (.iadd, 1) := dk_96 (dk_at dksX4_clearBank_5 19 rfl rfl)
theorem dX4_clearBank_140 : decode cX4_clearBank 140 = .ok (.if_icmp .ge 16, 3) := dk_162 0 16 (dk_at dksX4_clearBank_5 20 rfl rfl)
theorem dX4_clearBank_143 : decode cX4_clearBank 143 = .ok (.aload_n 0, 1) := dk_42 (dk_at dksX4_clearBank_5 23 rfl rfl)
theorem dX4_clearBank_144 : decode cX4_clearBank 144 = .ok (.getfield 66, 3) := dk_180 0 66 (dk_at dksX4_clearBank_6 0 rfl rfl)
theorem dX4_clearBank_147 : decode cX4_clearBank 147 = .ok (.iload_n 1, 1) := dk_27 (dk_at dksX4_clearBank_6 3 rfl rfl)
theorem dX4_clearBank_148 : decode cX4_clearBank 148 = .ok (.iconst 0, 1) := dk_3 (dk_at dksX4_clearBank_6 4 rfl rfl)
theorem dX4_clearBank_149 : decode cX4_clearBank 149 = .ok (.iastore, 1) := dk_79 (dk_at dksX4_clearBank_6 5 rfl rfl)
theorem dX4_clearBank_150 : decode cX4_clearBank 150 = .ok (.iinc 1 1, 3) := dk_132 1 1 (dk_at dksX4_clearBank_6 6 rfl rfl)
theorem dX4_clearBank_153 : decode cX4_clearBank 153 = .ok (.goto (-24), 3) := dk_167 255 232 (dk_at dksX4_clearBank_6 9 rfl rfl)
theorem dX4_clearBank_156 : decode cX4_clearBank 156 = .ok (.aload_n 0, 1) := dk_42 (dk_at dksX4_clearBank_6 12 rfl rfl)
theorem dX4_clearBank_157 : decode cX4_clearBank 157 = .ok (.sipush 560, 3) := dk_17 2 48 (dk_at dksX4_clearBank_6 13 rfl rfl)
theorem dX4_clearBank_160 : decode cX4_clearBank 160 = .ok (.aload_n 0, 1) := dk_42 (dk_at dksX4_clearBank_6 16 rfl rfl)
theorem dX4_clearBank_161 : decode cX4_clearBank 161 = .ok (.getfield 292, 3) := dk_180 1 36 (dk_at dksX4_clearBank_6 17 rfl rfl)
theorem dX4_clearBank_164 : decode cX4_clearBank 164 = .ok (.imul, 1) := dk_104 (dk_at dksX4_clearBank_6 20 rfl rfl)
theorem dX4_clearBank_165 : decode cX4_clearBank 165 = .ok (.putfield 295, 3) := dk_181 1 39 (dk_at dksX4_clearBank_6 21 rfl rfl)
theorem dX4_clearBank_168 : decode cX4_clearBank 168 = .ok (.return_, 1) := dk_177 (dk_at dksX4_clearBank_7 0 rfl rfl)
abbrev cX4_startAnew : ByteArray := prog_22_method_53_code
def yX4_startAnew : MethodName := ⟨RX4, "startAnew", "()V"⟩
def dkwX4_startAnew_6 : List UInt8 := [162, 0, 16, 42, 180, 0, 176, 27, 3, 84, 132, 1, 1, 167, 255, 241, 177]
abbrev dktX4_startAnew_6 : List UInt8 := dkwX4_startAnew_6 ++ []
def dkwX4_startAnew_5 : List UInt8 := [181, 1, 149, 42, 3, 181, 1, 152, 42, 3, 181, 1, 155, 42, 3, 181, 1, 158, 3, 60, 27, 6]
abbrev dktX4_startAnew_5 : List UInt8 := dkwX4_startAnew_5 ++ dktX4_startAnew_6
def dkwX4_startAnew_4 : List UInt8 := [132, 1, 1, 167, 255, 181, 42, 180, 0, 113, 16, 41, 42, 180, 0, 39, 42, 180, 1, 45, 46, 79, 42, 3]
abbrev dktX4_startAnew_4 : List UInt8 := dkwX4_startAnew_4 ++ dktX4_startAnew_5
def dkwX4_startAnew_3 : List UInt8 := [180, 0, 54, 6, 8, 42, 180, 1, 45, 104, 27, 96, 104, 28, 96, 46, 79, 132, 2, 1, 167, 255, 219]
abbrev dktX4_startAnew_3 : List UInt8 := dkwX4_startAnew_3 ++ dktX4_startAnew_4
def dkwX4_startAnew_2 : List UInt8 := [104, 27, 96, 46, 79, 3, 61, 28, 6, 162, 0, 38, 42, 180, 0, 113, 3, 6, 27, 104, 96, 28, 96, 42]
abbrev dktX4_startAnew_2 : List UInt8 := dkwX4_startAnew_2 ++ dktX4_startAnew_3
def dkwX4_startAnew_1 : List UInt8 := [42, 182, 1, 142, 162, 0, 73, 42, 180, 0, 113, 16, 15, 27, 96, 42, 180, 0, 48, 8, 42, 180, 1, 45]
abbrev dktX4_startAnew_1 : List UInt8 := dkwX4_startAnew_1 ++ dktX4_startAnew_2
def dkwX4_startAnew_0 : List UInt8 := [3, 60, 27, 16, 42, 162, 0, 16, 42, 180, 0, 113, 27, 3, 79, 132, 1, 1, 167, 255, 240, 3, 60, 27]
abbrev dktX4_startAnew_0 : List UInt8 := dkwX4_startAnew_0 ++ dktX4_startAnew_1
theorem dksX4_startAnew_0 : cX4_startAnew.data.toList.drop 0 = dktX4_startAnew_0 := by decide +kernel
theorem dksX4_startAnew_1 : cX4_startAnew.data.toList.drop 24 = dktX4_startAnew_1 := dk_seg dksX4_startAnew_0 24 rfl rfl
theorem dksX4_startAnew_2 : cX4_startAnew.data.toList.drop 48 = dktX4_startAnew_2 := dk_seg dksX4_startAnew_1 24 rfl rfl
theorem dksX4_startAnew_3 : cX4_startAnew.data.toList.drop 72 = dktX4_startAnew_3 := dk_seg dksX4_startAnew_2 24 rfl rfl
theorem dksX4_startAnew_4 : cX4_startAnew.data.toList.drop 95 = dktX4_startAnew_4 := dk_seg dksX4_startAnew_3 23 rfl rfl
theorem dksX4_startAnew_5 : cX4_startAnew.data.toList.drop 119 = dktX4_startAnew_5 := dk_seg dksX4_startAnew_4 24 rfl rfl
theorem dksX4_startAnew_6 : cX4_startAnew.data.toList.drop 141 = dktX4_startAnew_6 := dk_seg dksX4_startAnew_5 22 rfl rfl
theorem dX4_startAnew_0 : decode cX4_startAnew 0 = .ok (.iconst 0, 1) := dk_3 (dk_at dksX4_startAnew_0 0 rfl rfl)
theorem dX4_startAnew_1 : decode cX4_startAnew 1 = .ok (.istore_n 1, 1) := dk_60 (dk_at dksX4_startAnew_0 1 rfl rfl)
theorem dX4_startAnew_2 : decode cX4_startAnew 2 = .ok (.iload_n 1, 1) := dk_27 (dk_at dksX4_startAnew_0 2 rfl rfl)
theorem dX4_startAnew_3 : decode cX4_startAnew 3 = .ok (.bipush 42, 2) := dk_16 42 (dk_at dksX4_startAnew_0 3 rfl rfl)
theorem dX4_startAnew_5 : decode cX4_startAnew 5 = .ok (.if_icmp .ge 16, 3) := dk_162 0 16 (dk_at dksX4_startAnew_0 5 rfl rfl)
theorem dX4_startAnew_8 : decode cX4_startAnew 8 = .ok (.aload_n 0, 1) := dk_42 (dk_at dksX4_startAnew_0 8 rfl rfl)
theorem dX4_startAnew_9 : decode cX4_startAnew 9 = .ok (.getfield 113, 3) := dk_180 0 113 (dk_at dksX4_startAnew_0 9 rfl rfl)
theorem dX4_startAnew_12 : decode cX4_startAnew 12 = .ok (.iload_n 1, 1) := dk_27 (dk_at dksX4_startAnew_0 12 rfl rfl)
theorem dX4_startAnew_13 : decode cX4_startAnew 13 = .ok (.iconst 0, 1) := dk_3 (dk_at dksX4_startAnew_0 13 rfl rfl)
theorem dX4_startAnew_14 : decode cX4_startAnew 14 = .ok (.iastore, 1) := dk_79 (dk_at dksX4_startAnew_0 14 rfl rfl)
theorem dX4_startAnew_15 : decode cX4_startAnew 15 = .ok (.iinc 1 1, 3) := dk_132 1 1 (dk_at dksX4_startAnew_0 15 rfl rfl)
theorem dX4_startAnew_18 : decode cX4_startAnew 18 = .ok (.goto (-16), 3) := dk_167 255 240 (dk_at dksX4_startAnew_0 18 rfl rfl)
theorem dX4_startAnew_21 : decode cX4_startAnew 21 = .ok (.iconst 0, 1) := dk_3 (dk_at dksX4_startAnew_0 21 rfl rfl)
theorem dX4_startAnew_22 : decode cX4_startAnew 22 = .ok (.istore_n 1, 1) := dk_60 (dk_at dksX4_startAnew_0 22 rfl rfl)
theorem dX4_startAnew_23 : decode cX4_startAnew 23 = .ok (.iload_n 1, 1) := dk_27 (dk_at dksX4_startAnew_0 23 rfl rfl)
theorem dX4_startAnew_24 : decode cX4_startAnew 24 = .ok (.aload_n 0, 1) := dk_42 (dk_at dksX4_startAnew_1 0 rfl rfl)
theorem dX4_startAnew_25 : decode cX4_startAnew 25 = .ok (.invokevirtual 398, 3) := dk_182 1 142 (dk_at dksX4_startAnew_1 1 rfl rfl)
theorem dX4_startAnew_28 : decode cX4_startAnew 28 = .ok (.if_icmp .ge 73, 3) := dk_162 0 73 (dk_at dksX4_startAnew_1 4 rfl rfl)
theorem dX4_startAnew_31 : decode cX4_startAnew 31 = .ok (.aload_n 0, 1) := dk_42 (dk_at dksX4_startAnew_1 7 rfl rfl)
theorem dX4_startAnew_32 : decode cX4_startAnew 32 = .ok (.getfield 113, 3) := dk_180 0 113 (dk_at dksX4_startAnew_1 8 rfl rfl)
theorem dX4_startAnew_35 : decode cX4_startAnew 35 = .ok (.bipush 15, 2) := dk_16 15 (dk_at dksX4_startAnew_1 11 rfl rfl)
theorem dX4_startAnew_37 : decode cX4_startAnew 37 = .ok (.iload_n 1, 1) := dk_27 (dk_at dksX4_startAnew_1 13 rfl rfl)
theorem dX4_startAnew_38 : decode cX4_startAnew 38 = .ok (.iadd, 1) := dk_96 (dk_at dksX4_startAnew_1 14 rfl rfl)
theorem dX4_startAnew_39 : decode cX4_startAnew 39 = .ok (.aload_n 0, 1) := dk_42 (dk_at dksX4_startAnew_1 15 rfl rfl)
theorem dX4_startAnew_40 : decode cX4_startAnew 40 = .ok (.getfield 48, 3) := dk_180 0 48 (dk_at dksX4_startAnew_1 16 rfl rfl)
theorem dX4_startAnew_43 : decode cX4_startAnew 43 = .ok (.iconst 5, 1) := dk_8 (dk_at dksX4_startAnew_1 19 rfl rfl)
theorem dX4_startAnew_44 : decode cX4_startAnew 44 = .ok (.aload_n 0, 1) := dk_42 (dk_at dksX4_startAnew_1 20 rfl rfl)
theorem dX4_startAnew_45 : decode cX4_startAnew 45 = .ok (.getfield 301, 3) := dk_180 1 45 (dk_at dksX4_startAnew_1 21 rfl rfl)
theorem dX4_startAnew_48 : decode cX4_startAnew 48 = .ok (.imul, 1) := dk_104 (dk_at dksX4_startAnew_2 0 rfl rfl)
theorem dX4_startAnew_49 : decode cX4_startAnew 49 = .ok (.iload_n 1, 1) := dk_27 (dk_at dksX4_startAnew_2 1 rfl rfl)
theorem dX4_startAnew_50 : decode cX4_startAnew 50 = .ok (.iadd, 1) := dk_96 (dk_at dksX4_startAnew_2 2 rfl rfl)
theorem dX4_startAnew_51 : decode cX4_startAnew 51 = .ok (.iaload, 1) := dk_46 (dk_at dksX4_startAnew_2 3 rfl rfl)
theorem dX4_startAnew_52 : decode cX4_startAnew 52 = .ok (.iastore, 1) := dk_79 (dk_at dksX4_startAnew_2 4 rfl rfl)
theorem dX4_startAnew_53 : decode cX4_startAnew 53 = .ok (.iconst 0, 1) := dk_3 (dk_at dksX4_startAnew_2 5 rfl rfl)
theorem dX4_startAnew_54 : decode cX4_startAnew 54 = .ok (.istore_n 2, 1) := dk_61 (dk_at dksX4_startAnew_2 6 rfl rfl)
theorem dX4_startAnew_55 : decode cX4_startAnew 55 = .ok (.iload_n 2, 1) := dk_28 (dk_at dksX4_startAnew_2 7 rfl rfl)
theorem dX4_startAnew_56 : decode cX4_startAnew 56 = .ok (.iconst 3, 1) := dk_6 (dk_at dksX4_startAnew_2 8 rfl rfl)
theorem dX4_startAnew_57 : decode cX4_startAnew 57 = .ok (.if_icmp .ge 38, 3) := dk_162 0 38 (dk_at dksX4_startAnew_2 9 rfl rfl)
theorem dX4_startAnew_60 : decode cX4_startAnew 60 = .ok (.aload_n 0, 1) := dk_42 (dk_at dksX4_startAnew_2 12 rfl rfl)
theorem dX4_startAnew_61 : decode cX4_startAnew 61 = .ok (.getfield 113, 3) := dk_180 0 113 (dk_at dksX4_startAnew_2 13 rfl rfl)
theorem dX4_startAnew_64 : decode cX4_startAnew 64 = .ok (.iconst 0, 1) := dk_3 (dk_at dksX4_startAnew_2 16 rfl rfl)
theorem dX4_startAnew_65 : decode cX4_startAnew 65 = .ok (.iconst 3, 1) := dk_6 (dk_at dksX4_startAnew_2 17 rfl rfl)
theorem dX4_startAnew_66 : decode cX4_startAnew 66 = .ok (.iload_n 1, 1) := dk_27 (dk_at dksX4_startAnew_2 18 rfl rfl)
theorem dX4_startAnew_67 : decode cX4_startAnew 67 = .ok (.imul, 1) := dk_104 (dk_at dksX4_startAnew_2 19 rfl rfl)
theorem dX4_startAnew_68 : decode cX4_startAnew 68 = .ok (.iadd, 1) := dk_96 (dk_at dksX4_startAnew_2 20 rfl rfl)
theorem dX4_startAnew_69 : decode cX4_startAnew 69 = .ok (.iload_n 2, 1) := dk_28 (dk_at dksX4_startAnew_2 21 rfl rfl)
theorem dX4_startAnew_70 : decode cX4_startAnew 70 = .ok (.iadd, 1) := dk_96 (dk_at dksX4_startAnew_2 22 rfl rfl)
theorem dX4_startAnew_71 : decode cX4_startAnew 71 = .ok (.aload_n 0, 1) := dk_42 (dk_at dksX4_startAnew_2 23 rfl rfl)
theorem dX4_startAnew_72 : decode cX4_startAnew 72 = .ok (.getfield 54, 3) := dk_180 0 54 (dk_at dksX4_startAnew_3 0 rfl rfl)
theorem dX4_startAnew_75 : decode cX4_startAnew 75 = .ok (.iconst 3, 1) := dk_6 (dk_at dksX4_startAnew_3 3 rfl rfl)
theorem dX4_startAnew_76 : decode cX4_startAnew 76 = .ok (.iconst 5, 1) := dk_8 (dk_at dksX4_startAnew_3 4 rfl rfl)
theorem dX4_startAnew_77 : decode cX4_startAnew 77 = .ok (.aload_n 0, 1) := dk_42 (dk_at dksX4_startAnew_3 5 rfl rfl)
theorem dX4_startAnew_78 : decode cX4_startAnew 78 = .ok (.getfield 301, 3) := dk_180 1 45 (dk_at dksX4_startAnew_3 6 rfl rfl)
theorem dX4_startAnew_81 : decode cX4_startAnew 81 = .ok (.imul, 1) := dk_104 (dk_at dksX4_startAnew_3 9 rfl rfl)
theorem dX4_startAnew_82 : decode cX4_startAnew 82 = .ok (.iload_n 1, 1) := dk_27 (dk_at dksX4_startAnew_3 10 rfl rfl)
theorem dX4_startAnew_83 : decode cX4_startAnew 83 = .ok (.iadd, 1) := dk_96 (dk_at dksX4_startAnew_3 11 rfl rfl)
theorem dX4_startAnew_84 : decode cX4_startAnew 84 = .ok (.imul, 1) := dk_104 (dk_at dksX4_startAnew_3 12 rfl rfl)
theorem dX4_startAnew_85 : decode cX4_startAnew 85 = .ok (.iload_n 2, 1) := dk_28 (dk_at dksX4_startAnew_3 13 rfl rfl)
theorem dX4_startAnew_86 : decode cX4_startAnew 86 = .ok (.iadd, 1) := dk_96 (dk_at dksX4_startAnew_3 14 rfl rfl)
theorem dX4_startAnew_87 : decode cX4_startAnew 87 = .ok (.iaload, 1) := dk_46 (dk_at dksX4_startAnew_3 15 rfl rfl)
theorem dX4_startAnew_88 : decode cX4_startAnew 88 = .ok (.iastore, 1) := dk_79 (dk_at dksX4_startAnew_3 16 rfl rfl)
theorem dX4_startAnew_89 : decode cX4_startAnew 89 = .ok (.iinc 2 1, 3) := dk_132 2 1 (dk_at dksX4_startAnew_3 17 rfl rfl)
theorem dX4_startAnew_92 : decode cX4_startAnew 92 = .ok (.goto (-37), 3) := dk_167 255 219 (dk_at dksX4_startAnew_3 20 rfl rfl)
theorem dX4_startAnew_95 : decode cX4_startAnew 95 = .ok (.iinc 1 1, 3) := dk_132 1 1 (dk_at dksX4_startAnew_4 0 rfl rfl)
theorem dX4_startAnew_98 : decode cX4_startAnew 98 = .ok (.goto (-75), 3) := dk_167 255 181 (dk_at dksX4_startAnew_4 3 rfl rfl)
theorem dX4_startAnew_101 : decode cX4_startAnew 101 = .ok (.aload_n 0, 1) := dk_42 (dk_at dksX4_startAnew_4 6 rfl rfl)
theorem dX4_startAnew_102 : decode cX4_startAnew 102 = .ok (.getfield 113, 3) := dk_180 0 113 (dk_at dksX4_startAnew_4 7 rfl rfl)
theorem dX4_startAnew_105 : decode cX4_startAnew 105 = .ok (.bipush 41, 2) := dk_16 41 (dk_at dksX4_startAnew_4 10 rfl rfl)
theorem dX4_startAnew_107 : decode cX4_startAnew 107 = .ok (.aload_n 0, 1) := dk_42 (dk_at dksX4_startAnew_4 12 rfl rfl)
theorem dX4_startAnew_108 : decode cX4_startAnew 108 = .ok (.getfield 39, 3) := dk_180 0 39 (dk_at dksX4_startAnew_4 13 rfl rfl)
theorem dX4_startAnew_111 : decode cX4_startAnew 111 = .ok (.aload_n 0, 1) := dk_42 (dk_at dksX4_startAnew_4 16 rfl rfl)
theorem dX4_startAnew_112 : decode cX4_startAnew 112 = .ok (.getfield 301, 3) := dk_180 1 45 (dk_at dksX4_startAnew_4 17 rfl rfl)
theorem dX4_startAnew_115 : decode cX4_startAnew 115 = .ok (.iaload, 1) := dk_46 (dk_at dksX4_startAnew_4 20 rfl rfl)
theorem dX4_startAnew_116 : decode cX4_startAnew 116 = .ok (.iastore, 1) := dk_79 (dk_at dksX4_startAnew_4 21 rfl rfl)
theorem dX4_startAnew_117 : decode cX4_startAnew 117 = .ok (.aload_n 0, 1) := dk_42 (dk_at dksX4_startAnew_4 22 rfl rfl)
theorem dX4_startAnew_118 : decode cX4_startAnew 118 = .ok (.iconst 0, 1) := dk_3 (dk_at dksX4_startAnew_4 23 rfl rfl)
theorem dX4_startAnew_119 : decode cX4_startAnew 119 = .ok (.putfield 405, 3) := dk_181 1 149 (dk_at dksX4_startAnew_5 0 rfl rfl)
theorem dX4_startAnew_122 : decode cX4_startAnew 122 = .ok (.aload_n 0, 1) := dk_42 (dk_at dksX4_startAnew_5 3 rfl rfl)
theorem dX4_startAnew_123 : decode cX4_startAnew 123 = .ok (.iconst 0, 1) := dk_3 (dk_at dksX4_startAnew_5 4 rfl rfl)
theorem dX4_startAnew_124 : decode cX4_startAnew 124 = .ok (.putfield 408, 3) := dk_181 1 152 (dk_at dksX4_startAnew_5 5 rfl rfl)
theorem dX4_startAnew_127 : decode cX4_startAnew 127 = .ok (.aload_n 0, 1) := dk_42 (dk_at dksX4_startAnew_5 8 rfl rfl)
theorem dX4_startAnew_128 : decode cX4_startAnew 128 = .ok (.iconst 0, 1) := dk_3 (dk_at dksX4_startAnew_5 9 rfl rfl)
theorem dX4_startAnew_129 : decode cX4_startAnew 129 = .ok (.putfield 411, 3) := dk_181 1 155 (dk_at dksX4_startAnew_5 10 rfl rfl)
theorem dX4_startAnew_132 : decode cX4_startAnew 132 = .ok (.aload_n 0, 1) := dk_42 (dk_at dksX4_startAnew_5 13 rfl rfl)
theorem dX4_startAnew_133 : decode cX4_startAnew 133 = .ok (.iconst 0, 1) := dk_3 (dk_at dksX4_startAnew_5 14 rfl rfl)
theorem dX4_startAnew_134 : decode cX4_startAnew 134 = .ok (.putfield 414, 3) := dk_181 1 158 (dk_at dksX4_startAnew_5 15 rfl rfl)
theorem dX4_startAnew_137 : decode cX4_startAnew 137 = .ok (.iconst 0, 1) := dk_3 (dk_at dksX4_startAnew_5 18 rfl rfl)
theorem dX4_startAnew_138 : decode cX4_startAnew 138 = .ok (.istore_n 1, 1) := dk_60 (dk_at dksX4_startAnew_5 19 rfl rfl)
theorem dX4_startAnew_139 : decode cX4_startAnew 139 = .ok (.iload_n 1, 1) := dk_27 (dk_at dksX4_startAnew_5 20 rfl rfl)
theorem dX4_startAnew_140 : decode cX4_startAnew 140 = .ok (.iconst 3, 1) := dk_6 (dk_at dksX4_startAnew_5 21 rfl rfl)
theorem dX4_startAnew_141 : decode cX4_startAnew 141 = .ok (.if_icmp .ge 16, 3) := dk_162 0 16 (dk_at dksX4_startAnew_6 0 rfl rfl)
theorem dX4_startAnew_144 : decode cX4_startAnew 144 = .ok (.aload_n 0, 1) := dk_42 (dk_at dksX4_startAnew_6 3 rfl rfl)
theorem dX4_startAnew_145 : decode cX4_startAnew 145 = .ok (.getfield 176, 3) := dk_180 0 176 (dk_at dksX4_startAnew_6 4 rfl rfl)
theorem dX4_startAnew_148 : decode cX4_startAnew 148 = .ok (.iload_n 1, 1) := dk_27 (dk_at dksX4_startAnew_6 7 rfl rfl)
theorem dX4_startAnew_149 : decode cX4_startAnew 149 = .ok (.iconst 0, 1) := dk_3 (dk_at dksX4_startAnew_6 8 rfl rfl)
theorem dX4_startAnew_150 : decode cX4_startAnew 150 = .ok (.bastore, 1) := dk_84 (dk_at dksX4_startAnew_6 9 rfl rfl)
theorem dX4_startAnew_151 : decode cX4_startAnew 151 = .ok (.iinc 1 1, 3) := dk_132 1 1 (dk_at dksX4_startAnew_6 10 rfl rfl)
theorem dX4_startAnew_154 : decode cX4_startAnew 154 = .ok (.goto (-15), 3) := dk_167 255 241 (dk_at dksX4_startAnew_6 13 rfl rfl)
theorem dX4_startAnew_157 : decode cX4_startAnew 157 = .ok (.return_, 1) := dk_177 (dk_at dksX4_startAnew_6 16 rfl rfl)
abbrev cX4_many : ByteArray := prog_22_method_47_code
def yX4_many : MethodName := ⟨RX4, "many", "()I"⟩
def dkwX4_many_0 : List UInt8 := [42, 180, 0, 24, 42, 180, 1, 45, 46, 172]
abbrev dktX4_many_0 : List UInt8 := dkwX4_many_0 ++ []
theorem dksX4_many_0 : cX4_many.data.toList.drop 0 = dktX4_many_0 := by decide +kernel
theorem dX4_many_0 : decode cX4_many 0 = .ok (.aload_n 0, 1) := dk_42 (dk_at dksX4_many_0 0 rfl rfl)
theorem dX4_many_1 : decode cX4_many 1 = .ok (.getfield 24, 3) := dk_180 0 24 (dk_at dksX4_many_0 1 rfl rfl)
theorem dX4_many_4 : decode cX4_many 4 = .ok (.aload_n 0, 1) := dk_42 (dk_at dksX4_many_0 4 rfl rfl)
theorem dX4_many_5 : decode cX4_many 5 = .ok (.getfield 301, 3) := dk_180 1 45 (dk_at dksX4_many_0 5 rfl rfl)
theorem dX4_many_8 : decode cX4_many 8 = .ok (.iaload, 1) := dk_46 (dk_at dksX4_many_0 8 rfl rfl)
theorem dX4_many_9 : decode cX4_many 9 = .ok (.ireturn, 1) := dk_172 (dk_at dksX4_many_0 9 rfl rfl)
abbrev cX4_mill : ByteArray := prog_22_method_17_code
def yX4_mill : MethodName := ⟨RX4, "mill", "()I"⟩
def dkwX4_mill_5 : List UInt8 := [42, 180, 0, 24, 42, 180, 1, 45, 46, 172]
abbrev dktX4_mill_5 : List UInt8 := dkwX4_mill_5 ++ []
def dkwX4_mill_4 : List UInt8 := [167, 255, 238, 42, 182, 1, 15, 154, 0, 5, 2, 172, 42, 42, 180, 1, 36, 181, 1, 45, 42, 182, 0, 182]
abbrev dktX4_mill_4 : List UInt8 := dkwX4_mill_4 ++ dktX4_mill_5
def dkwX4_mill_3 : List UInt8 := [42, 182, 1, 19, 42, 182, 1, 15, 153, 0, 17, 42, 180, 0, 243, 153, 0, 10, 42, 182, 1, 48]
abbrev dktX4_mill_3 : List UInt8 := dkwX4_mill_3 ++ dktX4_mill_4
def dkwX4_mill_2 : List UInt8 := [42, 3, 181, 1, 42, 42, 3, 181, 0, 233, 42, 4, 42, 180, 1, 45, 100, 181, 1, 36, 42, 182, 0, 179]
abbrev dktX4_mill_2 : List UInt8 := dkwX4_mill_2 ++ dktX4_mill_3
def dkwX4_mill_1 : List UInt8 := [180, 0, 185, 162, 0, 21, 42, 180, 0, 13, 27, 42, 180, 0, 7, 27, 51, 84, 132, 1, 1, 167, 255, 233]
abbrev dktX4_mill_1 : List UInt8 := dkwX4_mill_1 ++ dktX4_mill_2
def dkwX4_mill_0 : List UInt8 := [42, 3, 181, 0, 188, 42, 2, 181, 0, 16, 42, 42, 180, 1, 42, 181, 0, 185, 3, 60, 27, 42]
abbrev dktX4_mill_0 : List UInt8 := dkwX4_mill_0 ++ dktX4_mill_1
theorem dksX4_mill_0 : cX4_mill.data.toList.drop 0 = dktX4_mill_0 := by decide +kernel
theorem dksX4_mill_1 : cX4_mill.data.toList.drop 22 = dktX4_mill_1 := dk_seg dksX4_mill_0 22 rfl rfl
theorem dksX4_mill_2 : cX4_mill.data.toList.drop 46 = dktX4_mill_2 := dk_seg dksX4_mill_1 24 rfl rfl
theorem dksX4_mill_3 : cX4_mill.data.toList.drop 70 = dktX4_mill_3 := dk_seg dksX4_mill_2 24 rfl rfl
theorem dksX4_mill_4 : cX4_mill.data.toList.drop 92 = dktX4_mill_4 := dk_seg dksX4_mill_3 22 rfl rfl
theorem dksX4_mill_5 : cX4_mill.data.toList.drop 116 = dktX4_mill_5 := dk_seg dksX4_mill_4 24 rfl rfl
theorem dX4_mill_0 : decode cX4_mill 0 = .ok (.aload_n 0, 1) := dk_42 (dk_at dksX4_mill_0 0 rfl rfl)
theorem dX4_mill_1 : decode cX4_mill 1 = .ok (.iconst 0, 1) := dk_3 (dk_at dksX4_mill_0 1 rfl rfl)
theorem dX4_mill_2 : decode cX4_mill 2 = .ok (.putfield 188, 3) := dk_181 0 188 (dk_at dksX4_mill_0 2 rfl rfl)
theorem dX4_mill_5 : decode cX4_mill 5 = .ok (.aload_n 0, 1) := dk_42 (dk_at dksX4_mill_0 5 rfl rfl)
theorem dX4_mill_6 : decode cX4_mill 6 = .ok (.iconst (-1), 1) := dk_2 (dk_at dksX4_mill_0 6 rfl rfl)
theorem dX4_mill_7 : decode cX4_mill 7 = .ok (.putfield 16, 3) := dk_181 0 16 (dk_at dksX4_mill_0 7 rfl rfl)
theorem dX4_mill_10 : decode cX4_mill 10 = .ok (.aload_n 0, 1) := dk_42 (dk_at dksX4_mill_0 10 rfl rfl)
theorem dX4_mill_11 : decode cX4_mill 11 = .ok (.aload_n 0, 1) := dk_42 (dk_at dksX4_mill_0 11 rfl rfl)
theorem dX4_mill_12 : decode cX4_mill 12 = .ok (.getfield 298, 3) := dk_180 1 42 (dk_at dksX4_mill_0 12 rfl rfl)
theorem dX4_mill_15 : decode cX4_mill 15 = .ok (.putfield 185, 3) := dk_181 0 185 (dk_at dksX4_mill_0 15 rfl rfl)
theorem dX4_mill_18 : decode cX4_mill 18 = .ok (.iconst 0, 1) := dk_3 (dk_at dksX4_mill_0 18 rfl rfl)
theorem dX4_mill_19 : decode cX4_mill 19 = .ok (.istore_n 1, 1) := dk_60 (dk_at dksX4_mill_0 19 rfl rfl)
theorem dX4_mill_20 : decode cX4_mill 20 = .ok (.iload_n 1, 1) := dk_27 (dk_at dksX4_mill_0 20 rfl rfl)
theorem dX4_mill_21 : decode cX4_mill 21 = .ok (.aload_n 0, 1) := dk_42 (dk_at dksX4_mill_0 21 rfl rfl)
theorem dX4_mill_22 : decode cX4_mill 22 = .ok (.getfield 185, 3) := dk_180 0 185 (dk_at dksX4_mill_1 0 rfl rfl)
theorem dX4_mill_25 : decode cX4_mill 25 = .ok (.if_icmp .ge 21, 3) := dk_162 0 21 (dk_at dksX4_mill_1 3 rfl rfl)
theorem dX4_mill_28 : decode cX4_mill 28 = .ok (.aload_n 0, 1) := dk_42 (dk_at dksX4_mill_1 6 rfl rfl)
theorem dX4_mill_29 : decode cX4_mill 29 = .ok (.getfield 13, 3) := dk_180 0 13 (dk_at dksX4_mill_1 7 rfl rfl)
theorem dX4_mill_32 : decode cX4_mill 32 = .ok (.iload_n 1, 1) := dk_27 (dk_at dksX4_mill_1 10 rfl rfl)
theorem dX4_mill_33 : decode cX4_mill 33 = .ok (.aload_n 0, 1) := dk_42 (dk_at dksX4_mill_1 11 rfl rfl)
theorem dX4_mill_34 : decode cX4_mill 34 = .ok (.getfield 7, 3) := dk_180 0 7 (dk_at dksX4_mill_1 12 rfl rfl)
theorem dX4_mill_37 : decode cX4_mill 37 = .ok (.iload_n 1, 1) := dk_27 (dk_at dksX4_mill_1 15 rfl rfl)
theorem dX4_mill_38 : decode cX4_mill 38 = .ok (.baload, 1) := dk_51 (dk_at dksX4_mill_1 16 rfl rfl)
theorem dX4_mill_39 : decode cX4_mill 39 = .ok (.bastore, 1) := dk_84 (dk_at dksX4_mill_1 17 rfl rfl)
theorem dX4_mill_40 : decode cX4_mill 40 = .ok (.iinc 1 1, 3) := dk_132 1 1 (dk_at dksX4_mill_1 18 rfl rfl)
theorem dX4_mill_43 : decode cX4_mill 43 = .ok (.goto (-23), 3) := dk_167 255 233 (dk_at dksX4_mill_1 21 rfl rfl)
theorem dX4_mill_46 : decode cX4_mill 46 = .ok (.aload_n 0, 1) := dk_42 (dk_at dksX4_mill_2 0 rfl rfl)
theorem dX4_mill_47 : decode cX4_mill 47 = .ok (.iconst 0, 1) := dk_3 (dk_at dksX4_mill_2 1 rfl rfl)
theorem dX4_mill_48 : decode cX4_mill 48 = .ok (.putfield 298, 3) := dk_181 1 42 (dk_at dksX4_mill_2 2 rfl rfl)
theorem dX4_mill_51 : decode cX4_mill 51 = .ok (.aload_n 0, 1) := dk_42 (dk_at dksX4_mill_2 5 rfl rfl)
theorem dX4_mill_52 : decode cX4_mill 52 = .ok (.iconst 0, 1) := dk_3 (dk_at dksX4_mill_2 6 rfl rfl)
theorem dX4_mill_53 : decode cX4_mill 53 = .ok (.putfield 233, 3) := dk_181 0 233 (dk_at dksX4_mill_2 7 rfl rfl)
theorem dX4_mill_56 : decode cX4_mill 56 = .ok (.aload_n 0, 1) := dk_42 (dk_at dksX4_mill_2 10 rfl rfl)
theorem dX4_mill_57 : decode cX4_mill 57 = .ok (.iconst 1, 1) := dk_4 (dk_at dksX4_mill_2 11 rfl rfl)
theorem dX4_mill_58 : decode cX4_mill 58 = .ok (.aload_n 0, 1) := dk_42 (dk_at dksX4_mill_2 12 rfl rfl)
theorem dX4_mill_59 : decode cX4_mill 59 = .ok (.getfield 301, 3) := dk_180 1 45 (dk_at dksX4_mill_2 13 rfl rfl)
theorem dX4_mill_62 : decode cX4_mill 62 = .ok (.isub, 1) := dk_100 (dk_at dksX4_mill_2 16 rfl rfl)
theorem dX4_mill_63 : decode cX4_mill 63 = .ok (.putfield 292, 3) := dk_181 1 36 (dk_at dksX4_mill_2 17 rfl rfl)
theorem dX4_mill_66 : decode cX4_mill 66 = .ok (.aload_n 0, 1) := dk_42 (dk_at dksX4_mill_2 20 rfl rfl)
theorem dX4_mill_67 : decode cX4_mill 67 = .ok (.invokevirtual 179, 3) := dk_182 0 179 (dk_at dksX4_mill_2 21 rfl rfl)
theorem dX4_mill_70 : decode cX4_mill 70 = .ok (.aload_n 0, 1) := dk_42 (dk_at dksX4_mill_3 0 rfl rfl)
theorem dX4_mill_71 : decode cX4_mill 71 = .ok (.invokevirtual 275, 3) := dk_182 1 19 (dk_at dksX4_mill_3 1 rfl rfl)
theorem dX4_mill_74 : decode cX4_mill 74 = .ok (.aload_n 0, 1) := dk_42 (dk_at dksX4_mill_3 4 rfl rfl)
theorem dX4_mill_75 : decode cX4_mill 75 = .ok (.invokevirtual 271, 3) := dk_182 1 15 (dk_at dksX4_mill_3 5 rfl rfl)
theorem dX4_mill_78 : decode cX4_mill 78 = .ok (.ifCond .eq 17, 3) := dk_153 0 17 (dk_at dksX4_mill_3 8 rfl rfl)
theorem dX4_mill_81 : decode cX4_mill 81 = .ok (.aload_n 0, 1) := dk_42 (dk_at dksX4_mill_3 11 rfl rfl)
theorem dX4_mill_82 : decode cX4_mill 82 = .ok (.getfield 243, 3) := dk_180 0 243 (dk_at dksX4_mill_3 12 rfl rfl)
theorem dX4_mill_85 : decode cX4_mill 85 = .ok (.ifCond .eq 10, 3) := dk_153 0 10 (dk_at dksX4_mill_3 15 rfl rfl)
theorem dX4_mill_88 : decode cX4_mill 88 = .ok (.aload_n 0, 1) := dk_42 (dk_at dksX4_mill_3 18 rfl rfl)
theorem dX4_mill_89 : decode cX4_mill 89 = .ok (.invokevirtual 304, 3) := dk_182 1 48 (dk_at dksX4_mill_3 19 rfl rfl)
theorem dX4_mill_92 : decode cX4_mill 92 = .ok (.goto (-18), 3) := dk_167 255 238 (dk_at dksX4_mill_4 0 rfl rfl)
theorem dX4_mill_95 : decode cX4_mill 95 = .ok (.aload_n 0, 1) := dk_42 (dk_at dksX4_mill_4 3 rfl rfl)
theorem dX4_mill_96 : decode cX4_mill 96 = .ok (.invokevirtual 271, 3) := dk_182 1 15 (dk_at dksX4_mill_4 4 rfl rfl)
theorem dX4_mill_99 : decode cX4_mill 99 = .ok (.ifCond .ne 5, 3) := dk_154 0 5 (dk_at dksX4_mill_4 7 rfl rfl)
theorem dX4_mill_102 : decode cX4_mill 102 = .ok (.iconst (-1), 1) := dk_2 (dk_at dksX4_mill_4 10 rfl rfl)
theorem dX4_mill_103 : decode cX4_mill 103 = .ok (.ireturn, 1) := dk_172 (dk_at dksX4_mill_4 11 rfl rfl)
theorem dX4_mill_104 : decode cX4_mill 104 = .ok (.aload_n 0, 1) := dk_42 (dk_at dksX4_mill_4 12 rfl rfl)
theorem dX4_mill_105 : decode cX4_mill 105 = .ok (.aload_n 0, 1) := dk_42 (dk_at dksX4_mill_4 13 rfl rfl)
theorem dX4_mill_106 : decode cX4_mill 106 = .ok (.getfield 292, 3) := dk_180 1 36 (dk_at dksX4_mill_4 14 rfl rfl)
theorem dX4_mill_109 : decode cX4_mill 109 = .ok (.putfield 301, 3) := dk_181 1 45 (dk_at dksX4_mill_4 17 rfl rfl)
theorem dX4_mill_112 : decode cX4_mill 112 = .ok (.aload_n 0, 1) := dk_42 (dk_at dksX4_mill_4 20 rfl rfl)
theorem dX4_mill_113 : decode cX4_mill 113 = .ok (.invokevirtual 182, 3) := dk_182 0 182 (dk_at dksX4_mill_4 21 rfl rfl)
theorem dX4_mill_116 : decode cX4_mill 116 = .ok (.aload_n 0, 1) := dk_42 (dk_at dksX4_mill_5 0 rfl rfl)
theorem dX4_mill_117 : decode cX4_mill 117 = .ok (.getfield 24, 3) := dk_180 0 24 (dk_at dksX4_mill_5 1 rfl rfl)
theorem dX4_mill_120 : decode cX4_mill 120 = .ok (.aload_n 0, 1) := dk_42 (dk_at dksX4_mill_5 4 rfl rfl)
theorem dX4_mill_121 : decode cX4_mill 121 = .ok (.getfield 301, 3) := dk_180 1 45 (dk_at dksX4_mill_5 5 rfl rfl)
theorem dX4_mill_124 : decode cX4_mill 124 = .ok (.iaload, 1) := dk_46 (dk_at dksX4_mill_5 8 rfl rfl)
theorem dX4_mill_125 : decode cX4_mill 125 = .ok (.ireturn, 1) := dk_172 (dk_at dksX4_mill_5 9 rfl rfl)
abbrev cX4_goOn : ByteArray := prog_22_method_9_code
def yX4_goOn : MethodName := ⟨RX4, "goOn", "()V"⟩
def dkwX4_goOn_16 : List UInt8 := [167, 0, 4, 4, 181, 0, 243, 177]
abbrev dktX4_goOn_16 : List UInt8 := dkwX4_goOn_16 ++ []
def dkwX4_goOn_15 : List UInt8 := [153, 0, 7, 4, 167, 0, 4, 7, 181, 0, 243, 167, 0, 19, 42, 27, 184, 1, 8, 153, 0, 7, 8]
abbrev dktX4_goOn_15 : List UInt8 := dkwX4_goOn_15 ++ dktX4_goOn_16
def dkwX4_goOn_14 : List UInt8 := [180, 0, 233, 42, 180, 0, 236, 100, 7, 163, 0, 17, 42, 42, 180, 0, 233, 182, 0, 239, 184, 0, 246]
abbrev dktX4_goOn_14 : List UInt8 := dkwX4_goOn_14 ++ dktX4_goOn_15
def dkwX4_goOn_13 : List UInt8 := [96, 16, 48, 100, 181, 1, 5, 42, 89, 180, 0, 233, 4, 96, 181, 0, 233, 167, 255, 196, 42, 42]
abbrev dktX4_goOn_13 : List UInt8 := dkwX4_goOn_13 ++ dktX4_goOn_14
def dkwX4_goOn_12 : List UInt8 := [180, 0, 236, 100, 7, 162, 0, 26, 42, 16, 10, 42, 180, 1, 5, 104, 42, 42, 180, 0, 233, 182, 0, 239]
abbrev dktX4_goOn_12 : List UInt8 := dkwX4_goOn_12 ++ dktX4_goOn_13
def dkwX4_goOn_11 : List UInt8 := [181, 0, 233, 42, 42, 180, 0, 233, 182, 0, 239, 184, 1, 2, 153, 0, 52, 42, 180, 0, 233, 42]
abbrev dktX4_goOn_11 : List UInt8 := dkwX4_goOn_11 ++ dktX4_goOn_12
def dkwX4_goOn_10 : List UInt8 := [181, 0, 243, 167, 0, 141, 27, 184, 1, 2, 153, 0, 118, 42, 3, 181, 1, 5, 42, 42, 180, 0, 236]
abbrev dktX4_goOn_10 : List UInt8 := dkwX4_goOn_10 ++ dktX4_goOn_11
def dkwX4_goOn_9 : List UInt8 := [164, 0, 7, 4, 167, 0, 18, 42, 180, 0, 250, 184, 0, 254, 153, 0, 7, 6, 167, 0, 4, 5]
abbrev dktX4_goOn_9 : List UInt8 := dkwX4_goOn_9 ++ dktX4_goOn_10
def dkwX4_goOn_8 : List UInt8 := [133, 129, 181, 0, 250, 132, 2, 1, 167, 255, 216, 42, 42, 180, 0, 233, 42, 180, 0, 236, 100, 16, 8]
abbrev dktX4_goOn_8 : List UInt8 := dkwX4_goOn_8 ++ dktX4_goOn_9
def dkwX4_goOn_7 : List UInt8 := [28, 42, 180, 0, 236, 16, 8, 96, 162, 0, 27, 42, 42, 180, 0, 250, 16, 8, 121, 42, 28, 182, 0, 239]
abbrev dktX4_goOn_7 : List UInt8 := dkwX4_goOn_7 ++ dktX4_goOn_8
def dkwX4_goOn_6 : List UInt8 := [181, 0, 233, 167, 255, 232, 42, 9, 181, 0, 250, 42, 180, 0, 236, 61, 28, 42, 180, 0, 233, 162, 0, 38]
abbrev dktX4_goOn_6 : List UInt8 := dkwX4_goOn_6 ++ dktX4_goOn_7
def dkwX4_goOn_5 : List UInt8 := [153, 0, 123, 42, 42, 180, 0, 233, 182, 0, 239, 184, 0, 246, 153, 0, 16, 42, 89, 180, 0, 233, 4, 96]
abbrev dktX4_goOn_5 : List UInt8 := dkwX4_goOn_5 ++ dktX4_goOn_6
def dkwX4_goOn_4 : List UInt8 := [42, 42, 180, 0, 185, 181, 0, 236, 42, 42, 180, 0, 185, 181, 0, 233, 167, 1, 12, 27, 184, 0, 246]
abbrev dktX4_goOn_4 : List UInt8 := dkwX4_goOn_4 ++ dktX4_goOn_5
def dkwX4_goOn_3 : List UInt8 := [180, 0, 236, 4, 96, 181, 0, 233, 42, 180, 0, 236, 42, 180, 0, 185, 161, 0, 27, 42, 3, 181, 0, 243]
abbrev dktX4_goOn_3 : List UInt8 := dkwX4_goOn_3 ++ dktX4_goOn_4
def dkwX4_goOn_2 : List UInt8 := [180, 0, 236, 4, 96, 181, 0, 236, 167, 255, 209, 42, 42, 180, 0, 236, 182, 0, 239, 60, 42, 42]
abbrev dktX4_goOn_2 : List UInt8 := dkwX4_goOn_2 ++ dktX4_goOn_3
def dkwX4_goOn_1 : List UInt8 := [182, 0, 239, 16, 32, 159, 0, 16, 42, 42, 180, 0, 236, 182, 0, 239, 16, 10, 160, 0, 16, 42, 89]
abbrev dktX4_goOn_1 : List UInt8 := dkwX4_goOn_1 ++ dktX4_goOn_2
def dkwX4_goOn_0 : List UInt8 := [42, 42, 180, 0, 233, 181, 0, 236, 42, 180, 0, 236, 42, 180, 0, 185, 162, 0, 42, 42, 42, 180, 0, 236]
abbrev dktX4_goOn_0 : List UInt8 := dkwX4_goOn_0 ++ dktX4_goOn_1
theorem dksX4_goOn_0 : cX4_goOn.data.toList.drop 0 = dktX4_goOn_0 := by decide +kernel
theorem dksX4_goOn_1 : cX4_goOn.data.toList.drop 24 = dktX4_goOn_1 := dk_seg dksX4_goOn_0 24 rfl rfl
theorem dksX4_goOn_2 : cX4_goOn.data.toList.drop 47 = dktX4_goOn_2 := dk_seg dksX4_goOn_1 23 rfl rfl
theorem dksX4_goOn_3 : cX4_goOn.data.toList.drop 69 = dktX4_goOn_3 := dk_seg dksX4_goOn_2 22 rfl rfl
theorem dksX4_goOn_4 : cX4_goOn.data.toList.drop 93 = dktX4_goOn_4 := dk_seg dksX4_goOn_3 24 rfl rfl
theorem dksX4_goOn_5 : cX4_goOn.data.toList.drop 116 = dktX4_goOn_5 := dk_seg dksX4_goOn_4 23 rfl rfl
theorem dksX4_goOn_6 : cX4_goOn.data.toList.drop 140 = dktX4_goOn_6 := dk_seg dksX4_goOn_5 24 rfl rfl
theorem dksX4_goOn_7 : cX4_goOn.data.toList.drop 164 = dktX4_goOn_7 := dk_seg dksX4_goOn_6 24 rfl rfl
theorem dksX4_goOn_8 : cX4_goOn.data.toList.drop 188 = dktX4_goOn_8 := dk_seg dksX4_goOn_7 24 rfl rfl
theorem dksX4_goOn_9 : cX4_goOn.data.toList.drop 211 = dktX4_goOn_9 := dk_seg dksX4_goOn_8 23 rfl rfl
theorem dksX4_goOn_10 : cX4_goOn.data.toList.drop 233 = dktX4_goOn_10 := dk_seg dksX4_goOn_9 22 rfl rfl
theorem dksX4_goOn_11 : cX4_goOn.data.toList.drop 256 = dktX4_goOn_11 := dk_seg dksX4_goOn_10 23 rfl rfl
theorem dksX4_goOn_12 : cX4_goOn.data.toList.drop 278 = dktX4_goOn_12 := dk_seg dksX4_goOn_11 22 rfl rfl
theorem dksX4_goOn_13 : cX4_goOn.data.toList.drop 302 = dktX4_goOn_13 := dk_seg dksX4_goOn_12 24 rfl rfl
theorem dksX4_goOn_14 : cX4_goOn.data.toList.drop 324 = dktX4_goOn_14 := dk_seg dksX4_goOn_13 22 rfl rfl
theorem dksX4_goOn_15 : cX4_goOn.data.toList.drop 347 = dktX4_goOn_15 := dk_seg dksX4_goOn_14 23 rfl rfl
theorem dksX4_goOn_16 : cX4_goOn.data.toList.drop 370 = dktX4_goOn_16 := dk_seg dksX4_goOn_15 23 rfl rfl
theorem dX4_goOn_0 : decode cX4_goOn 0 = .ok (.aload_n 0, 1) := dk_42 (dk_at dksX4_goOn_0 0 rfl rfl)
theorem dX4_goOn_1 : decode cX4_goOn 1 = .ok (.aload_n 0, 1) := dk_42 (dk_at dksX4_goOn_0 1 rfl rfl)
theorem dX4_goOn_2 : decode cX4_goOn 2 = .ok (.getfield 233, 3) := dk_180 0 233 (dk_at dksX4_goOn_0 2 rfl rfl)
theorem dX4_goOn_5 : decode cX4_goOn 5 = .ok (.putfield 236, 3) := dk_181 0 236 (dk_at dksX4_goOn_0 5 rfl rfl)
theorem dX4_goOn_8 : decode cX4_goOn 8 = .ok (.aload_n 0, 1) := dk_42 (dk_at dksX4_goOn_0 8 rfl rfl)
theorem dX4_goOn_9 : decode cX4_goOn 9 = .ok (.getfield 236, 3) := dk_180 0 236 (dk_at dksX4_goOn_0 9 rfl rfl)
theorem dX4_goOn_12 : decode cX4_goOn 12 = .ok (.aload_n 0, 1) := dk_42 (dk_at dksX4_goOn_0 12 rfl rfl)
theorem dX4_goOn_13 : decode cX4_goOn 13 = .ok (.getfield 185, 3) := dk_180 0 185 (dk_at dksX4_goOn_0 13 rfl rfl)
theorem dX4_goOn_16 : decode cX4_goOn 16 = .ok (.if_icmp .ge 42, 3) := dk_162 0 42 (dk_at dksX4_goOn_0 16 rfl rfl)
theorem dX4_goOn_19 : decode cX4_goOn 19 = .ok (.aload_n 0, 1) := dk_42 (dk_at dksX4_goOn_0 19 rfl rfl)
theorem dX4_goOn_20 : decode cX4_goOn 20 = .ok (.aload_n 0, 1) := dk_42 (dk_at dksX4_goOn_0 20 rfl rfl)
theorem dX4_goOn_21 : decode cX4_goOn 21 = .ok (.getfield 236, 3) := dk_180 0 236 (dk_at dksX4_goOn_0 21 rfl rfl)
theorem dX4_goOn_24 : decode cX4_goOn 24 = .ok (.invokevirtual 239, 3) := dk_182 0 239 (dk_at dksX4_goOn_1 0 rfl rfl)
theorem dX4_goOn_27 : decode cX4_goOn 27 = .ok (.bipush 32, 2) := dk_16 32 (dk_at dksX4_goOn_1 3 rfl rfl)
theorem dX4_goOn_29 : decode cX4_goOn 29 = .ok (.if_icmp .eq 16, 3) := dk_159 0 16 (dk_at dksX4_goOn_1 5 rfl rfl)
theorem dX4_goOn_32 : decode cX4_goOn 32 = .ok (.aload_n 0, 1) := dk_42 (dk_at dksX4_goOn_1 8 rfl rfl)
theorem dX4_goOn_33 : decode cX4_goOn 33 = .ok (.aload_n 0, 1) := dk_42 (dk_at dksX4_goOn_1 9 rfl rfl)
theorem dX4_goOn_34 : decode cX4_goOn 34 = .ok (.getfield 236, 3) := dk_180 0 236 (dk_at dksX4_goOn_1 10 rfl rfl)
theorem dX4_goOn_37 : decode cX4_goOn 37 = .ok (.invokevirtual 239, 3) := dk_182 0 239 (dk_at dksX4_goOn_1 13 rfl rfl)
theorem dX4_goOn_40 : decode cX4_goOn 40 = .ok (.bipush 10, 2) := dk_16 10 (dk_at dksX4_goOn_1 16 rfl rfl)
theorem dX4_goOn_42 : decode cX4_goOn 42 = .ok (.if_icmp .ne 16, 3) := dk_160 0 16 (dk_at dksX4_goOn_1 18 rfl rfl)
theorem dX4_goOn_45 : decode cX4_goOn 45 = .ok (.aload_n 0, 1) := dk_42 (dk_at dksX4_goOn_1 21 rfl rfl)
theorem dX4_goOn_46 : decode cX4_goOn 46 = .ok (.dup, 1) := dk_89 (dk_at dksX4_goOn_1 22 rfl rfl)
theorem dX4_goOn_47 : decode cX4_goOn 47 = .ok (.getfield 236, 3) := dk_180 0 236 (dk_at dksX4_goOn_2 0 rfl rfl)
theorem dX4_goOn_50 : decode cX4_goOn 50 = .ok (.iconst 1, 1) := dk_4 (dk_at dksX4_goOn_2 3 rfl rfl)
theorem dX4_goOn_51 : decode cX4_goOn 51 = .ok (.iadd, 1) := dk_96 (dk_at dksX4_goOn_2 4 rfl rfl)
theorem dX4_goOn_52 : decode cX4_goOn 52 = .ok (.putfield 236, 3) := dk_181 0 236 (dk_at dksX4_goOn_2 5 rfl rfl)
theorem dX4_goOn_55 : decode cX4_goOn 55 = .ok (.goto (-47), 3) := dk_167 255 209 (dk_at dksX4_goOn_2 8 rfl rfl)
theorem dX4_goOn_58 : decode cX4_goOn 58 = .ok (.aload_n 0, 1) := dk_42 (dk_at dksX4_goOn_2 11 rfl rfl)
theorem dX4_goOn_59 : decode cX4_goOn 59 = .ok (.aload_n 0, 1) := dk_42 (dk_at dksX4_goOn_2 12 rfl rfl)
theorem dX4_goOn_60 : decode cX4_goOn 60 = .ok (.getfield 236, 3) := dk_180 0 236 (dk_at dksX4_goOn_2 13 rfl rfl)
theorem dX4_goOn_63 : decode cX4_goOn 63 = .ok (.invokevirtual 239, 3) := dk_182 0 239 (dk_at dksX4_goOn_2 16 rfl rfl)
theorem dX4_goOn_66 : decode cX4_goOn 66 = .ok (.istore_n 1, 1) := dk_60 (dk_at dksX4_goOn_2 19 rfl rfl)
theorem dX4_goOn_67 : decode cX4_goOn 67 = .ok (.aload_n 0, 1) := dk_42 (dk_at dksX4_goOn_2 20 rfl rfl)
theorem dX4_goOn_68 : decode cX4_goOn 68 = .ok (.aload_n 0, 1) := dk_42 (dk_at dksX4_goOn_2 21 rfl rfl)
theorem dX4_goOn_69 : decode cX4_goOn 69 = .ok (.getfield 236, 3) := dk_180 0 236 (dk_at dksX4_goOn_3 0 rfl rfl)
theorem dX4_goOn_72 : decode cX4_goOn 72 = .ok (.iconst 1, 1) := dk_4 (dk_at dksX4_goOn_3 3 rfl rfl)
theorem dX4_goOn_73 : decode cX4_goOn 73 = .ok (.iadd, 1) := dk_96 (dk_at dksX4_goOn_3 4 rfl rfl)
theorem dX4_goOn_74 : decode cX4_goOn 74 = .ok (.putfield 233, 3) := dk_181 0 233 (dk_at dksX4_goOn_3 5 rfl rfl)
theorem dX4_goOn_77 : decode cX4_goOn 77 = .ok (.aload_n 0, 1) := dk_42 (dk_at dksX4_goOn_3 8 rfl rfl)
theorem dX4_goOn_78 : decode cX4_goOn 78 = .ok (.getfield 236, 3) := dk_180 0 236 (dk_at dksX4_goOn_3 9 rfl rfl)
theorem dX4_goOn_81 : decode cX4_goOn 81 = .ok (.aload_n 0, 1) := dk_42 (dk_at dksX4_goOn_3 12 rfl rfl)
theorem dX4_goOn_82 : decode cX4_goOn 82 = .ok (.getfield 185, 3) := dk_180 0 185 (dk_at dksX4_goOn_3 13 rfl rfl)
theorem dX4_goOn_85 : decode cX4_goOn 85 = .ok (.if_icmp .lt 27, 3) := dk_161 0 27 (dk_at dksX4_goOn_3 16 rfl rfl)
theorem dX4_goOn_88 : decode cX4_goOn 88 = .ok (.aload_n 0, 1) := dk_42 (dk_at dksX4_goOn_3 19 rfl rfl)
theorem dX4_goOn_89 : decode cX4_goOn 89 = .ok (.iconst 0, 1) := dk_3 (dk_at dksX4_goOn_3 20 rfl rfl)
theorem dX4_goOn_90 : decode cX4_goOn 90 = .ok (.putfield 243, 3) := dk_181 0 243 (dk_at dksX4_goOn_3 21 rfl rfl)
theorem dX4_goOn_93 : decode cX4_goOn 93 = .ok (.aload_n 0, 1) := dk_42 (dk_at dksX4_goOn_4 0 rfl rfl)
theorem dX4_goOn_94 : decode cX4_goOn 94 = .ok (.aload_n 0, 1) := dk_42 (dk_at dksX4_goOn_4 1 rfl rfl)
theorem dX4_goOn_95 : decode cX4_goOn 95 = .ok (.getfield 185, 3) := dk_180 0 185 (dk_at dksX4_goOn_4 2 rfl rfl)
theorem dX4_goOn_98 : decode cX4_goOn 98 = .ok (.putfield 236, 3) := dk_181 0 236 (dk_at dksX4_goOn_4 5 rfl rfl)
theorem dX4_goOn_101 : decode cX4_goOn 101 = .ok (.aload_n 0, 1) := dk_42 (dk_at dksX4_goOn_4 8 rfl rfl)
theorem dX4_goOn_102 : decode cX4_goOn 102 = .ok (.aload_n 0, 1) := dk_42 (dk_at dksX4_goOn_4 9 rfl rfl)
theorem dX4_goOn_103 : decode cX4_goOn 103 = .ok (.getfield 185, 3) := dk_180 0 185 (dk_at dksX4_goOn_4 10 rfl rfl)
theorem dX4_goOn_106 : decode cX4_goOn 106 = .ok (.putfield 233, 3) := dk_181 0 233 (dk_at dksX4_goOn_4 13 rfl rfl)
theorem dX4_goOn_109 : decode cX4_goOn 109 = .ok (.goto 268, 3) := dk_167 1 12 (dk_at dksX4_goOn_4 16 rfl rfl)
theorem dX4_goOn_112 : decode cX4_goOn 112 = .ok (.iload_n 1, 1) := dk_27 (dk_at dksX4_goOn_4 19 rfl rfl)
theorem dX4_goOn_113 : decode cX4_goOn 113 = .ok (.invokestatic 246, 3) := dk_184 0 246 (dk_at dksX4_goOn_4 20 rfl rfl)
theorem dX4_goOn_116 : decode cX4_goOn 116 = .ok (.ifCond .eq 123, 3) := dk_153 0 123 (dk_at dksX4_goOn_5 0 rfl rfl)
theorem dX4_goOn_119 : decode cX4_goOn 119 = .ok (.aload_n 0, 1) := dk_42 (dk_at dksX4_goOn_5 3 rfl rfl)
theorem dX4_goOn_120 : decode cX4_goOn 120 = .ok (.aload_n 0, 1) := dk_42 (dk_at dksX4_goOn_5 4 rfl rfl)
theorem dX4_goOn_121 : decode cX4_goOn 121 = .ok (.getfield 233, 3) := dk_180 0 233 (dk_at dksX4_goOn_5 5 rfl rfl)
theorem dX4_goOn_124 : decode cX4_goOn 124 = .ok (.invokevirtual 239, 3) := dk_182 0 239 (dk_at dksX4_goOn_5 8 rfl rfl)
theorem dX4_goOn_127 : decode cX4_goOn 127 = .ok (.invokestatic 246, 3) := dk_184 0 246 (dk_at dksX4_goOn_5 11 rfl rfl)
theorem dX4_goOn_130 : decode cX4_goOn 130 = .ok (.ifCond .eq 16, 3) := dk_153 0 16 (dk_at dksX4_goOn_5 14 rfl rfl)
theorem dX4_goOn_133 : decode cX4_goOn 133 = .ok (.aload_n 0, 1) := dk_42 (dk_at dksX4_goOn_5 17 rfl rfl)
theorem dX4_goOn_134 : decode cX4_goOn 134 = .ok (.dup, 1) := dk_89 (dk_at dksX4_goOn_5 18 rfl rfl)
theorem dX4_goOn_135 : decode cX4_goOn 135 = .ok (.getfield 233, 3) := dk_180 0 233 (dk_at dksX4_goOn_5 19 rfl rfl)
theorem dX4_goOn_138 : decode cX4_goOn 138 = .ok (.iconst 1, 1) := dk_4 (dk_at dksX4_goOn_5 22 rfl rfl)
theorem dX4_goOn_139 : decode cX4_goOn 139 = .ok (.iadd, 1) := dk_96 (dk_at dksX4_goOn_5 23 rfl rfl)
theorem dX4_goOn_140 : decode cX4_goOn 140 = .ok (.putfield 233, 3) := dk_181 0 233 (dk_at dksX4_goOn_6 0 rfl rfl)
theorem dX4_goOn_143 : decode cX4_goOn 143 = .ok (.goto (-24), 3) := dk_167 255 232 (dk_at dksX4_goOn_6 3 rfl rfl)
theorem dX4_goOn_146 : decode cX4_goOn 146 = .ok (.aload_n 0, 1) := dk_42 (dk_at dksX4_goOn_6 6 rfl rfl)
theorem dX4_goOn_147 : decode cX4_goOn 147 = .ok (.lconst 0, 1) := dk_9 (dk_at dksX4_goOn_6 7 rfl rfl)
theorem dX4_goOn_148 : decode cX4_goOn 148 = .ok (.putfield 250, 3) := dk_181 0 250 (dk_at dksX4_goOn_6 8 rfl rfl)
theorem dX4_goOn_151 : decode cX4_goOn 151 = .ok (.aload_n 0, 1) := dk_42 (dk_at dksX4_goOn_6 11 rfl rfl)
theorem dX4_goOn_152 : decode cX4_goOn 152 = .ok (.getfield 236, 3) := dk_180 0 236 (dk_at dksX4_goOn_6 12 rfl rfl)
theorem dX4_goOn_155 : decode cX4_goOn 155 = .ok (.istore_n 2, 1) := dk_61 (dk_at dksX4_goOn_6 15 rfl rfl)
theorem dX4_goOn_156 : decode cX4_goOn 156 = .ok (.iload_n 2, 1) := dk_28 (dk_at dksX4_goOn_6 16 rfl rfl)
theorem dX4_goOn_157 : decode cX4_goOn 157 = .ok (.aload_n 0, 1) := dk_42 (dk_at dksX4_goOn_6 17 rfl rfl)
theorem dX4_goOn_158 : decode cX4_goOn 158 = .ok (.getfield 233, 3) := dk_180 0 233 (dk_at dksX4_goOn_6 18 rfl rfl)
theorem dX4_goOn_161 : decode cX4_goOn 161 = .ok (.if_icmp .ge 38, 3) := dk_162 0 38 (dk_at dksX4_goOn_6 21 rfl rfl)
theorem dX4_goOn_164 : decode cX4_goOn 164 = .ok (.iload_n 2, 1) := dk_28 (dk_at dksX4_goOn_7 0 rfl rfl)
theorem dX4_goOn_165 : decode cX4_goOn 165 = .ok (.aload_n 0, 1) := dk_42 (dk_at dksX4_goOn_7 1 rfl rfl)
theorem dX4_goOn_166 : decode cX4_goOn 166 = .ok (.getfield 236, 3) := dk_180 0 236 (dk_at dksX4_goOn_7 2 rfl rfl)
theorem dX4_goOn_169 : decode cX4_goOn 169 = .ok (.bipush 8, 2) := dk_16 8 (dk_at dksX4_goOn_7 5 rfl rfl)
theorem dX4_goOn_171 : decode cX4_goOn 171 = .ok (.iadd, 1) := dk_96 (dk_at dksX4_goOn_7 7 rfl rfl)
theorem dX4_goOn_172 : decode cX4_goOn 172 = .ok (.if_icmp .ge 27, 3) := dk_162 0 27 (dk_at dksX4_goOn_7 8 rfl rfl)
theorem dX4_goOn_175 : decode cX4_goOn 175 = .ok (.aload_n 0, 1) := dk_42 (dk_at dksX4_goOn_7 11 rfl rfl)
theorem dX4_goOn_176 : decode cX4_goOn 176 = .ok (.aload_n 0, 1) := dk_42 (dk_at dksX4_goOn_7 12 rfl rfl)
theorem dX4_goOn_177 : decode cX4_goOn 177 = .ok (.getfield 250, 3) := dk_180 0 250 (dk_at dksX4_goOn_7 13 rfl rfl)
theorem dX4_goOn_180 : decode cX4_goOn 180 = .ok (.bipush 8, 2) := dk_16 8 (dk_at dksX4_goOn_7 16 rfl rfl)
theorem dX4_goOn_182 : decode cX4_goOn 182 = .ok (.lshl, 1) := dk_121 (dk_at dksX4_goOn_7 18 rfl rfl)
theorem dX4_goOn_183 : decode cX4_goOn 183 = .ok (.aload_n 0, 1) := dk_42 (dk_at dksX4_goOn_7 19 rfl rfl)
theorem dX4_goOn_184 : decode cX4_goOn 184 = .ok (.iload_n 2, 1) := dk_28 (dk_at dksX4_goOn_7 20 rfl rfl)
theorem dX4_goOn_185 : decode cX4_goOn 185 = .ok (.invokevirtual 239, 3) := dk_182 0 239 (dk_at dksX4_goOn_7 21 rfl rfl)
theorem dX4_goOn_188 : decode cX4_goOn 188 = .ok (.i2l, 1) := dk_133 (dk_at dksX4_goOn_8 0 rfl rfl)
theorem dX4_goOn_189 : decode cX4_goOn 189 = .ok (.lor, 1) := dk_129 (dk_at dksX4_goOn_8 1 rfl rfl)
theorem dX4_goOn_190 : decode cX4_goOn 190 = .ok (.putfield 250, 3) := dk_181 0 250 (dk_at dksX4_goOn_8 2 rfl rfl)
theorem dX4_goOn_193 : decode cX4_goOn 193 = .ok (.iinc 2 1, 3) := dk_132 2 1 (dk_at dksX4_goOn_8 5 rfl rfl)
theorem dX4_goOn_196 : decode cX4_goOn 196 = .ok (.goto (-40), 3) := dk_167 255 216 (dk_at dksX4_goOn_8 8 rfl rfl)
theorem dX4_goOn_199 : decode cX4_goOn 199 = .ok (.aload_n 0, 1) := dk_42 (dk_at dksX4_goOn_8 11 rfl rfl)
theorem dX4_goOn_200 : decode cX4_goOn 200 = .ok (.aload_n 0, 1) := dk_42 (dk_at dksX4_goOn_8 12 rfl rfl)
theorem dX4_goOn_201 : decode cX4_goOn 201 = .ok (.getfield 233, 3) := dk_180 0 233 (dk_at dksX4_goOn_8 13 rfl rfl)
theorem dX4_goOn_204 : decode cX4_goOn 204 = .ok (.aload_n 0, 1) := dk_42 (dk_at dksX4_goOn_8 16 rfl rfl)
theorem dX4_goOn_205 : decode cX4_goOn 205 = .ok (.getfield 236, 3) := dk_180 0 236 (dk_at dksX4_goOn_8 17 rfl rfl)
theorem dX4_goOn_208 : decode cX4_goOn 208 = .ok (.isub, 1) := dk_100 (dk_at dksX4_goOn_8 20 rfl rfl)
theorem dX4_goOn_209 : decode cX4_goOn 209 = .ok (.bipush 8, 2) := dk_16 8 (dk_at dksX4_goOn_8 21 rfl rfl)
theorem dX4_goOn_211 : decode cX4_goOn 211 = .ok (.if_icmp .le 7, 3) := dk_164 0 7 (dk_at dksX4_goOn_9 0 rfl rfl)
theorem dX4_goOn_214 : decode cX4_goOn 214 = .ok (.iconst 1, 1) := dk_4 (dk_at dksX4_goOn_9 3 rfl rfl)
theorem dX4_goOn_215 : decode cX4_goOn 215 = .ok (.goto 18, 3) := dk_167 0 18 (dk_at dksX4_goOn_9 4 rfl rfl)
theorem dX4_goOn_218 : decode cX4_goOn 218 = .ok (.aload_n 0, 1) := dk_42 (dk_at dksX4_goOn_9 7 rfl rfl)
theorem dX4_goOn_219 : decode cX4_goOn 219 = .ok (.getfield 250, 3) := dk_180 0 250 (dk_at dksX4_goOn_9 8 rfl rfl)
theorem dX4_goOn_222 : decode cX4_goOn 222 = .ok (.invokestatic 254, 3) := dk_184 0 254 (dk_at dksX4_goOn_9 11 rfl rfl)
theorem dX4_goOn_225 : decode cX4_goOn 225 = .ok (.ifCond .eq 7, 3) := dk_153 0 7 (dk_at dksX4_goOn_9 14 rfl rfl)
theorem dX4_goOn_228 : decode cX4_goOn 228 = .ok (.iconst 3, 1) := dk_6 (dk_at dksX4_goOn_9 17 rfl rfl)
theorem dX4_goOn_229 : decode cX4_goOn 229 = .ok (.goto 4, 3) := dk_167 0 4 (dk_at dksX4_goOn_9 18 rfl rfl)
theorem dX4_goOn_232 : decode cX4_goOn 232 = .ok (.iconst 2, 1) := dk_5 (dk_at dksX4_goOn_9 21 rfl rfl)
theorem dX4_goOn_233 : decode cX4_goOn 233 = .ok (.putfield 243, 3) := dk_181 0 243 (dk_at dksX4_goOn_10 0 rfl rfl)
theorem dX4_goOn_236 : decode cX4_goOn 236 = .ok (.goto 141, 3) := dk_167 0 141 (dk_at dksX4_goOn_10 3 rfl rfl)
theorem dX4_goOn_239 : decode cX4_goOn 239 = .ok (.iload_n 1, 1) := dk_27 (dk_at dksX4_goOn_10 6 rfl rfl)
theorem dX4_goOn_240 : decode cX4_goOn 240 = .ok (.invokestatic 258, 3) := dk_184 1 2 (dk_at dksX4_goOn_10 7 rfl rfl)
theorem dX4_goOn_243 : decode cX4_goOn 243 = .ok (.ifCond .eq 118, 3) := dk_153 0 118 (dk_at dksX4_goOn_10 10 rfl rfl)
theorem dX4_goOn_246 : decode cX4_goOn 246 = .ok (.aload_n 0, 1) := dk_42 (dk_at dksX4_goOn_10 13 rfl rfl)
theorem dX4_goOn_247 : decode cX4_goOn 247 = .ok (.iconst 0, 1) := dk_3 (dk_at dksX4_goOn_10 14 rfl rfl)
theorem dX4_goOn_248 : decode cX4_goOn 248 = .ok (.putfield 261, 3) := dk_181 1 5 (dk_at dksX4_goOn_10 15 rfl rfl)
theorem dX4_goOn_251 : decode cX4_goOn 251 = .ok (.aload_n 0, 1) := dk_42 (dk_at dksX4_goOn_10 18 rfl rfl)
theorem dX4_goOn_252 : decode cX4_goOn 252 = .ok (.aload_n 0, 1) := dk_42 (dk_at dksX4_goOn_10 19 rfl rfl)
theorem dX4_goOn_253 : decode cX4_goOn 253 = .ok (.getfield 236, 3) := dk_180 0 236 (dk_at dksX4_goOn_10 20 rfl rfl)
theorem dX4_goOn_256 : decode cX4_goOn 256 = .ok (.putfield 233, 3) := dk_181 0 233 (dk_at dksX4_goOn_11 0 rfl rfl)
theorem dX4_goOn_259 : decode cX4_goOn 259 = .ok (.aload_n 0, 1) := dk_42 (dk_at dksX4_goOn_11 3 rfl rfl)
theorem dX4_goOn_260 : decode cX4_goOn 260 = .ok (.aload_n 0, 1) := dk_42 (dk_at dksX4_goOn_11 4 rfl rfl)
theorem dX4_goOn_261 : decode cX4_goOn 261 = .ok (.getfield 233, 3) := dk_180 0 233 (dk_at dksX4_goOn_11 5 rfl rfl)
theorem dX4_goOn_264 : decode cX4_goOn 264 = .ok (.invokevirtual 239, 3) := dk_182 0 239 (dk_at dksX4_goOn_11 8 rfl rfl)
theorem dX4_goOn_267 : decode cX4_goOn 267 = .ok (.invokestatic 258, 3) := dk_184 1 2 (dk_at dksX4_goOn_11 11 rfl rfl)
theorem dX4_goOn_270 : decode cX4_goOn 270 = .ok (.ifCond .eq 52, 3) := dk_153 0 52 (dk_at dksX4_goOn_11 14 rfl rfl)
theorem dX4_goOn_273 : decode cX4_goOn 273 = .ok (.aload_n 0, 1) := dk_42 (dk_at dksX4_goOn_11 17 rfl rfl)
theorem dX4_goOn_274 : decode cX4_goOn 274 = .ok (.getfield 233, 3) := dk_180 0 233 (dk_at dksX4_goOn_11 18 rfl rfl)
theorem dX4_goOn_277 : decode cX4_goOn 277 = .ok (.aload_n 0, 1) := dk_42 (dk_at dksX4_goOn_11 21 rfl rfl)
theorem dX4_goOn_278 : decode cX4_goOn 278 = .ok (.getfield 236, 3) := dk_180 0 236 (dk_at dksX4_goOn_12 0 rfl rfl)
theorem dX4_goOn_281 : decode cX4_goOn 281 = .ok (.isub, 1) := dk_100 (dk_at dksX4_goOn_12 3 rfl rfl)
theorem dX4_goOn_282 : decode cX4_goOn 282 = .ok (.iconst 4, 1) := dk_7 (dk_at dksX4_goOn_12 4 rfl rfl)
theorem dX4_goOn_283 : decode cX4_goOn 283 = .ok (.if_icmp .ge 26, 3) := dk_162 0 26 (dk_at dksX4_goOn_12 5 rfl rfl)
theorem dX4_goOn_286 : decode cX4_goOn 286 = .ok (.aload_n 0, 1) := dk_42 (dk_at dksX4_goOn_12 8 rfl rfl)
theorem dX4_goOn_287 : decode cX4_goOn 287 = .ok (.bipush 10, 2) := dk_16 10 (dk_at dksX4_goOn_12 9 rfl rfl)
theorem dX4_goOn_289 : decode cX4_goOn 289 = .ok (.aload_n 0, 1) := dk_42 (dk_at dksX4_goOn_12 11 rfl rfl)
theorem dX4_goOn_290 : decode cX4_goOn 290 = .ok (.getfield 261, 3) := dk_180 1 5 (dk_at dksX4_goOn_12 12 rfl rfl)
theorem dX4_goOn_293 : decode cX4_goOn 293 = .ok (.imul, 1) := dk_104 (dk_at dksX4_goOn_12 15 rfl rfl)
theorem dX4_goOn_294 : decode cX4_goOn 294 = .ok (.aload_n 0, 1) := dk_42 (dk_at dksX4_goOn_12 16 rfl rfl)
theorem dX4_goOn_295 : decode cX4_goOn 295 = .ok (.aload_n 0, 1) := dk_42 (dk_at dksX4_goOn_12 17 rfl rfl)
theorem dX4_goOn_296 : decode cX4_goOn 296 = .ok (.getfield 233, 3) := dk_180 0 233 (dk_at dksX4_goOn_12 18 rfl rfl)
theorem dX4_goOn_299 : decode cX4_goOn 299 = .ok (.invokevirtual 239, 3) := dk_182 0 239 (dk_at dksX4_goOn_12 21 rfl rfl)
theorem dX4_goOn_302 : decode cX4_goOn 302 = .ok (.iadd, 1) := dk_96 (dk_at dksX4_goOn_13 0 rfl rfl)
theorem dX4_goOn_303 : decode cX4_goOn 303 = .ok (.bipush 48, 2) := dk_16 48 (dk_at dksX4_goOn_13 1 rfl rfl)
theorem dX4_goOn_305 : decode cX4_goOn 305 = .ok (.isub, 1) := dk_100 (dk_at dksX4_goOn_13 3 rfl rfl)
theorem dX4_goOn_306 : decode cX4_goOn 306 = .ok (.putfield 261, 3) := dk_181 1 5 (dk_at dksX4_goOn_13 4 rfl rfl)
theorem dX4_goOn_309 : decode cX4_goOn 309 = .ok (.aload_n 0, 1) := dk_42 (dk_at dksX4_goOn_13 7 rfl rfl)
theorem dX4_goOn_310 : decode cX4_goOn 310 = .ok (.dup, 1) := dk_89 (dk_at dksX4_goOn_13 8 rfl rfl)
theorem dX4_goOn_311 : decode cX4_goOn 311 = .ok (.getfield 233, 3) := dk_180 0 233 (dk_at dksX4_goOn_13 9 rfl rfl)
theorem dX4_goOn_314 : decode cX4_goOn 314 = .ok (.iconst 1, 1) := dk_4 (dk_at dksX4_goOn_13 12 rfl rfl)
theorem dX4_goOn_315 : decode cX4_goOn 315 = .ok (.iadd, 1) := dk_96 (dk_at dksX4_goOn_13 13 rfl rfl)
theorem dX4_goOn_316 : decode cX4_goOn 316 = .ok (.putfield 233, 3) := dk_181 0 233 (dk_at dksX4_goOn_13 14 rfl rfl)
theorem dX4_goOn_319 : decode cX4_goOn 319 = .ok (.goto (-60), 3) := dk_167 255 196 (dk_at dksX4_goOn_13 17 rfl rfl)
theorem dX4_goOn_322 : decode cX4_goOn 322 = .ok (.aload_n 0, 1) := dk_42 (dk_at dksX4_goOn_13 20 rfl rfl)
theorem dX4_goOn_323 : decode cX4_goOn 323 = .ok (.aload_n 0, 1) := dk_42 (dk_at dksX4_goOn_13 21 rfl rfl)
theorem dX4_goOn_324 : decode cX4_goOn 324 = .ok (.getfield 233, 3) := dk_180 0 233 (dk_at dksX4_goOn_14 0 rfl rfl)
theorem dX4_goOn_327 : decode cX4_goOn 327 = .ok (.aload_n 0, 1) := dk_42 (dk_at dksX4_goOn_14 3 rfl rfl)
theorem dX4_goOn_328 : decode cX4_goOn 328 = .ok (.getfield 236, 3) := dk_180 0 236 (dk_at dksX4_goOn_14 4 rfl rfl)
theorem dX4_goOn_331 : decode cX4_goOn 331 = .ok (.isub, 1) := dk_100 (dk_at dksX4_goOn_14 7 rfl rfl)
theorem dX4_goOn_332 : decode cX4_goOn 332 = .ok (.iconst 4, 1) := dk_7 (dk_at dksX4_goOn_14 8 rfl rfl)
theorem dX4_goOn_333 : decode cX4_goOn 333 = .ok (.if_icmp .gt 17, 3) := dk_163 0 17 (dk_at dksX4_goOn_14 9 rfl rfl)
theorem dX4_goOn_336 : decode cX4_goOn 336 = .ok (.aload_n 0, 1) := dk_42 (dk_at dksX4_goOn_14 12 rfl rfl)
theorem dX4_goOn_337 : decode cX4_goOn 337 = .ok (.aload_n 0, 1) := dk_42 (dk_at dksX4_goOn_14 13 rfl rfl)
theorem dX4_goOn_338 : decode cX4_goOn 338 = .ok (.getfield 233, 3) := dk_180 0 233 (dk_at dksX4_goOn_14 14 rfl rfl)
theorem dX4_goOn_341 : decode cX4_goOn 341 = .ok (.invokevirtual 239, 3) := dk_182 0 239 (dk_at dksX4_goOn_14 17 rfl rfl)
theorem dX4_goOn_344 : decode cX4_goOn 344 = .ok (.invokestatic 246, 3) := dk_184 0 246 (dk_at dksX4_goOn_14 20 rfl rfl)
theorem dX4_goOn_347 : decode cX4_goOn 347 = .ok (.ifCond .eq 7, 3) := dk_153 0 7 (dk_at dksX4_goOn_15 0 rfl rfl)
theorem dX4_goOn_350 : decode cX4_goOn 350 = .ok (.iconst 1, 1) := dk_4 (dk_at dksX4_goOn_15 3 rfl rfl)
theorem dX4_goOn_351 : decode cX4_goOn 351 = .ok (.goto 4, 3) := dk_167 0 4 (dk_at dksX4_goOn_15 4 rfl rfl)
theorem dX4_goOn_354 : decode cX4_goOn 354 = .ok (.iconst 4, 1) := dk_7 (dk_at dksX4_goOn_15 7 rfl rfl)
theorem dX4_goOn_355 : decode cX4_goOn 355 = .ok (.putfield 243, 3) := dk_181 0 243 (dk_at dksX4_goOn_15 8 rfl rfl)
theorem dX4_goOn_358 : decode cX4_goOn 358 = .ok (.goto 19, 3) := dk_167 0 19 (dk_at dksX4_goOn_15 11 rfl rfl)
theorem dX4_goOn_361 : decode cX4_goOn 361 = .ok (.aload_n 0, 1) := dk_42 (dk_at dksX4_goOn_15 14 rfl rfl)
theorem dX4_goOn_362 : decode cX4_goOn 362 = .ok (.iload_n 1, 1) := dk_27 (dk_at dksX4_goOn_15 15 rfl rfl)
theorem dX4_goOn_363 : decode cX4_goOn 363 = .ok (.invokestatic 264, 3) := dk_184 1 8 (dk_at dksX4_goOn_15 16 rfl rfl)
theorem dX4_goOn_366 : decode cX4_goOn 366 = .ok (.ifCond .eq 7, 3) := dk_153 0 7 (dk_at dksX4_goOn_15 19 rfl rfl)
theorem dX4_goOn_369 : decode cX4_goOn 369 = .ok (.iconst 5, 1) := dk_8 (dk_at dksX4_goOn_15 22 rfl rfl)
theorem dX4_goOn_370 : decode cX4_goOn 370 = .ok (.goto 4, 3) := dk_167 0 4 (dk_at dksX4_goOn_16 0 rfl rfl)
theorem dX4_goOn_373 : decode cX4_goOn 373 = .ok (.iconst 1, 1) := dk_4 (dk_at dksX4_goOn_16 3 rfl rfl)
theorem dX4_goOn_374 : decode cX4_goOn 374 = .ok (.putfield 243, 3) := dk_181 0 243 (dk_at dksX4_goOn_16 4 rfl rfl)
theorem dX4_goOn_377 : decode cX4_goOn 377 = .ok (.return_, 1) := dk_177 (dk_at dksX4_goOn_16 7 rfl rfl)
abbrev cX4_sign : ByteArray := prog_22_method_2_code
def yX4_sign : MethodName := ⟨RX4, "sign", "(I)I"⟩
def dkwX4_sign_0 : List UInt8 := [27, 42, 180, 0, 185, 162, 0, 16, 42, 180, 0, 13, 27, 51, 17, 0, 255, 126, 167, 0, 4, 3, 172]
abbrev dktX4_sign_0 : List UInt8 := dkwX4_sign_0 ++ []
theorem dksX4_sign_0 : cX4_sign.data.toList.drop 0 = dktX4_sign_0 := by decide +kernel
theorem dX4_sign_0 : decode cX4_sign 0 = .ok (.iload_n 1, 1) := dk_27 (dk_at dksX4_sign_0 0 rfl rfl)
theorem dX4_sign_1 : decode cX4_sign 1 = .ok (.aload_n 0, 1) := dk_42 (dk_at dksX4_sign_0 1 rfl rfl)
theorem dX4_sign_2 : decode cX4_sign 2 = .ok (.getfield 185, 3) := dk_180 0 185 (dk_at dksX4_sign_0 2 rfl rfl)
theorem dX4_sign_5 : decode cX4_sign 5 = .ok (.if_icmp .ge 16, 3) := dk_162 0 16 (dk_at dksX4_sign_0 5 rfl rfl)
theorem dX4_sign_8 : decode cX4_sign 8 = .ok (.aload_n 0, 1) := dk_42 (dk_at dksX4_sign_0 8 rfl rfl)
theorem dX4_sign_9 : decode cX4_sign 9 = .ok (.getfield 13, 3) := dk_180 0 13 (dk_at dksX4_sign_0 9 rfl rfl)
theorem dX4_sign_12 : decode cX4_sign 12 = .ok (.iload_n 1, 1) := dk_27 (dk_at dksX4_sign_0 12 rfl rfl)
theorem dX4_sign_13 : decode cX4_sign 13 = .ok (.baload, 1) := dk_51 (dk_at dksX4_sign_0 13 rfl rfl)
theorem dX4_sign_14 : decode cX4_sign 14 = .ok (.sipush 255, 3) := dk_17 0 255 (dk_at dksX4_sign_0 14 rfl rfl)
theorem dX4_sign_17 : decode cX4_sign 17 = .ok (.iand, 1) := dk_126 (dk_at dksX4_sign_0 17 rfl rfl)
theorem dX4_sign_18 : decode cX4_sign 18 = .ok (.goto 4, 3) := dk_167 0 4 (dk_at dksX4_sign_0 18 rfl rfl)
theorem dX4_sign_21 : decode cX4_sign 21 = .ok (.iconst 0, 1) := dk_3 (dk_at dksX4_sign_0 21 rfl rfl)
theorem dX4_sign_22 : decode cX4_sign 22 = .ok (.ireturn, 1) := dk_172 (dk_at dksX4_sign_0 22 rfl rfl)
abbrev cX4_isLetter : ByteArray := prog_22_method_3_code
def yX4_isLetter : MethodName := ⟨RX4, "isLetter", "(I)Z"⟩
def dkwX4_isLetter_0 : List UInt8 := [26, 16, 97, 161, 0, 13, 26, 16, 122, 163, 0, 7, 4, 167, 0, 4, 3, 172]
abbrev dktX4_isLetter_0 : List UInt8 := dkwX4_isLetter_0 ++ []
theorem dksX4_isLetter_0 : cX4_isLetter.data.toList.drop 0 = dktX4_isLetter_0 := by decide +kernel
theorem dX4_isLetter_0 : decode cX4_isLetter 0 = .ok (.iload_n 0, 1) := dk_26 (dk_at dksX4_isLetter_0 0 rfl rfl)
theorem dX4_isLetter_1 : decode cX4_isLetter 1 = .ok (.bipush 97, 2) := dk_16 97 (dk_at dksX4_isLetter_0 1 rfl rfl)
theorem dX4_isLetter_3 : decode cX4_isLetter 3 = .ok (.if_icmp .lt 13, 3) := dk_161 0 13 (dk_at dksX4_isLetter_0 3 rfl rfl)
theorem dX4_isLetter_6 : decode cX4_isLetter 6 = .ok (.iload_n 0, 1) := dk_26 (dk_at dksX4_isLetter_0 6 rfl rfl)
theorem dX4_isLetter_7 : decode cX4_isLetter 7 = .ok (.bipush 122, 2) := dk_16 122 (dk_at dksX4_isLetter_0 7 rfl rfl)
theorem dX4_isLetter_9 : decode cX4_isLetter 9 = .ok (.if_icmp .gt 7, 3) := dk_163 0 7 (dk_at dksX4_isLetter_0 9 rfl rfl)
theorem dX4_isLetter_12 : decode cX4_isLetter 12 = .ok (.iconst 1, 1) := dk_4 (dk_at dksX4_isLetter_0 12 rfl rfl)
theorem dX4_isLetter_13 : decode cX4_isLetter 13 = .ok (.goto 4, 3) := dk_167 0 4 (dk_at dksX4_isLetter_0 13 rfl rfl)
theorem dX4_isLetter_16 : decode cX4_isLetter 16 = .ok (.iconst 0, 1) := dk_3 (dk_at dksX4_isLetter_0 16 rfl rfl)
theorem dX4_isLetter_17 : decode cX4_isLetter 17 = .ok (.ireturn, 1) := dk_172 (dk_at dksX4_isLetter_0 17 rfl rfl)
abbrev cX4_isKept : ByteArray := prog_22_method_7_code
def yX4_isKept : MethodName := ⟨RX4, "isKept", "(J)Z"⟩
def dkwX4_isKept_7 : List UInt8 := [153, 0, 11, 30, 20, 0, 231, 148, 154, 0, 7, 4, 167, 0, 4, 3, 172]
abbrev dktX4_isKept_7 : List UInt8 := dkwX4_isKept_7 ++ []
def dkwX4_isKept_6 : List UInt8 := [153, 0, 35, 30, 20, 0, 225, 148, 153, 0, 27, 30, 20, 0, 227, 148, 153, 0, 19, 30, 20, 0, 229, 148]
abbrev dktX4_isKept_6 : List UInt8 := dkwX4_isKept_6 ++ dktX4_isKept_7
def dkwX4_isKept_5 : List UInt8 := [153, 0, 59, 30, 20, 0, 219, 148, 153, 0, 51, 30, 20, 0, 221, 148, 153, 0, 43, 30, 20, 0, 223, 148]
abbrev dktX4_isKept_5 : List UInt8 := dkwX4_isKept_5 ++ dktX4_isKept_6
def dkwX4_isKept_4 : List UInt8 := [154, 0, 83, 30, 20, 0, 213, 148, 153, 0, 75, 30, 20, 0, 215, 148, 153, 0, 67, 30, 20, 0, 217, 148]
abbrev dktX4_isKept_4 : List UInt8 := dkwX4_isKept_4 ++ dktX4_isKept_5
def dkwX4_isKept_3 : List UInt8 := [30, 20, 0, 209, 148, 153, 0, 11, 30, 20, 0, 211, 148, 154, 0, 7, 4, 167, 0, 4, 3, 61, 28]
abbrev dktX4_isKept_3 : List UInt8 := dkwX4_isKept_3 ++ dktX4_isKept_4
def dkwX4_isKept_2 : List UInt8 := [30, 20, 0, 203, 148, 153, 0, 35, 30, 20, 0, 205, 148, 153, 0, 27, 30, 20, 0, 207, 148, 153, 0, 19]
abbrev dktX4_isKept_2 : List UInt8 := dkwX4_isKept_2 ++ dktX4_isKept_3
def dkwX4_isKept_1 : List UInt8 := [30, 20, 0, 197, 148, 153, 0, 59, 30, 20, 0, 199, 148, 153, 0, 51, 30, 20, 0, 201, 148, 153, 0, 43]
abbrev dktX4_isKept_1 : List UInt8 := dkwX4_isKept_1 ++ dktX4_isKept_2
def dkwX4_isKept_0 : List UInt8 := [30, 20, 0, 191, 148, 153, 0, 83, 30, 20, 0, 193, 148, 153, 0, 75, 30, 20, 0, 195, 148, 153, 0, 67]
abbrev dktX4_isKept_0 : List UInt8 := dkwX4_isKept_0 ++ dktX4_isKept_1
theorem dksX4_isKept_0 : cX4_isKept.data.toList.drop 0 = dktX4_isKept_0 := by decide +kernel
theorem dksX4_isKept_1 : cX4_isKept.data.toList.drop 24 = dktX4_isKept_1 := dk_seg dksX4_isKept_0 24 rfl rfl
theorem dksX4_isKept_2 : cX4_isKept.data.toList.drop 48 = dktX4_isKept_2 := dk_seg dksX4_isKept_1 24 rfl rfl
theorem dksX4_isKept_3 : cX4_isKept.data.toList.drop 72 = dktX4_isKept_3 := dk_seg dksX4_isKept_2 24 rfl rfl
theorem dksX4_isKept_4 : cX4_isKept.data.toList.drop 95 = dktX4_isKept_4 := dk_seg dksX4_isKept_3 23 rfl rfl
theorem dksX4_isKept_5 : cX4_isKept.data.toList.drop 119 = dktX4_isKept_5 := dk_seg dksX4_isKept_4 24 rfl rfl
theorem dksX4_isKept_6 : cX4_isKept.data.toList.drop 143 = dktX4_isKept_6 := dk_seg dksX4_isKept_5 24 rfl rfl
theorem dksX4_isKept_7 : cX4_isKept.data.toList.drop 167 = dktX4_isKept_7 := dk_seg dksX4_isKept_6 24 rfl rfl
theorem dX4_isKept_0 : decode cX4_isKept 0 = .ok (.lload_n 0, 1) := dk_30 (dk_at dksX4_isKept_0 0 rfl rfl)
theorem dX4_isKept_1 : decode cX4_isKept 1 = .ok (.ldc2_w 191, 3) := dk_20 0 191 (dk_at dksX4_isKept_0 1 rfl rfl)
theorem dX4_isKept_4 : decode cX4_isKept 4 = .ok (.lcmp, 1) := dk_148 (dk_at dksX4_isKept_0 4 rfl rfl)
theorem dX4_isKept_5 : decode cX4_isKept 5 = .ok (.ifCond .eq 83, 3) := dk_153 0 83 (dk_at dksX4_isKept_0 5 rfl rfl)
theorem dX4_isKept_8 : decode cX4_isKept 8 = .ok (.lload_n 0, 1) := dk_30 (dk_at dksX4_isKept_0 8 rfl rfl)
theorem dX4_isKept_9 : decode cX4_isKept 9 = .ok (.ldc2_w 193, 3) := dk_20 0 193 (dk_at dksX4_isKept_0 9 rfl rfl)
theorem dX4_isKept_12 : decode cX4_isKept 12 = .ok (.lcmp, 1) := dk_148 (dk_at dksX4_isKept_0 12 rfl rfl)
theorem dX4_isKept_13 : decode cX4_isKept 13 = .ok (.ifCond .eq 75, 3) := dk_153 0 75 (dk_at dksX4_isKept_0 13 rfl rfl)
theorem dX4_isKept_16 : decode cX4_isKept 16 = .ok (.lload_n 0, 1) := dk_30 (dk_at dksX4_isKept_0 16 rfl rfl)
theorem dX4_isKept_17 : decode cX4_isKept 17 = .ok (.ldc2_w 195, 3) := dk_20 0 195 (dk_at dksX4_isKept_0 17 rfl rfl)
theorem dX4_isKept_20 : decode cX4_isKept 20 = .ok (.lcmp, 1) := dk_148 (dk_at dksX4_isKept_0 20 rfl rfl)
theorem dX4_isKept_21 : decode cX4_isKept 21 = .ok (.ifCond .eq 67, 3) := dk_153 0 67 (dk_at dksX4_isKept_0 21 rfl rfl)
theorem dX4_isKept_24 : decode cX4_isKept 24 = .ok (.lload_n 0, 1) := dk_30 (dk_at dksX4_isKept_1 0 rfl rfl)
theorem dX4_isKept_25 : decode cX4_isKept 25 = .ok (.ldc2_w 197, 3) := dk_20 0 197 (dk_at dksX4_isKept_1 1 rfl rfl)
theorem dX4_isKept_28 : decode cX4_isKept 28 = .ok (.lcmp, 1) := dk_148 (dk_at dksX4_isKept_1 4 rfl rfl)
theorem dX4_isKept_29 : decode cX4_isKept 29 = .ok (.ifCond .eq 59, 3) := dk_153 0 59 (dk_at dksX4_isKept_1 5 rfl rfl)
theorem dX4_isKept_32 : decode cX4_isKept 32 = .ok (.lload_n 0, 1) := dk_30 (dk_at dksX4_isKept_1 8 rfl rfl)
theorem dX4_isKept_33 : decode cX4_isKept 33 = .ok (.ldc2_w 199, 3) := dk_20 0 199 (dk_at dksX4_isKept_1 9 rfl rfl)
theorem dX4_isKept_36 : decode cX4_isKept 36 = .ok (.lcmp, 1) := dk_148 (dk_at dksX4_isKept_1 12 rfl rfl)
theorem dX4_isKept_37 : decode cX4_isKept 37 = .ok (.ifCond .eq 51, 3) := dk_153 0 51 (dk_at dksX4_isKept_1 13 rfl rfl)
theorem dX4_isKept_40 : decode cX4_isKept 40 = .ok (.lload_n 0, 1) := dk_30 (dk_at dksX4_isKept_1 16 rfl rfl)
theorem dX4_isKept_41 : decode cX4_isKept 41 = .ok (.ldc2_w 201, 3) := dk_20 0 201 (dk_at dksX4_isKept_1 17 rfl rfl)
theorem dX4_isKept_44 : decode cX4_isKept 44 = .ok (.lcmp, 1) := dk_148 (dk_at dksX4_isKept_1 20 rfl rfl)
theorem dX4_isKept_45 : decode cX4_isKept 45 = .ok (.ifCond .eq 43, 3) := dk_153 0 43 (dk_at dksX4_isKept_1 21 rfl rfl)
theorem dX4_isKept_48 : decode cX4_isKept 48 = .ok (.lload_n 0, 1) := dk_30 (dk_at dksX4_isKept_2 0 rfl rfl)
theorem dX4_isKept_49 : decode cX4_isKept 49 = .ok (.ldc2_w 203, 3) := dk_20 0 203 (dk_at dksX4_isKept_2 1 rfl rfl)
theorem dX4_isKept_52 : decode cX4_isKept 52 = .ok (.lcmp, 1) := dk_148 (dk_at dksX4_isKept_2 4 rfl rfl)
theorem dX4_isKept_53 : decode cX4_isKept 53 = .ok (.ifCond .eq 35, 3) := dk_153 0 35 (dk_at dksX4_isKept_2 5 rfl rfl)
theorem dX4_isKept_56 : decode cX4_isKept 56 = .ok (.lload_n 0, 1) := dk_30 (dk_at dksX4_isKept_2 8 rfl rfl)
theorem dX4_isKept_57 : decode cX4_isKept 57 = .ok (.ldc2_w 205, 3) := dk_20 0 205 (dk_at dksX4_isKept_2 9 rfl rfl)
theorem dX4_isKept_60 : decode cX4_isKept 60 = .ok (.lcmp, 1) := dk_148 (dk_at dksX4_isKept_2 12 rfl rfl)
theorem dX4_isKept_61 : decode cX4_isKept 61 = .ok (.ifCond .eq 27, 3) := dk_153 0 27 (dk_at dksX4_isKept_2 13 rfl rfl)
theorem dX4_isKept_64 : decode cX4_isKept 64 = .ok (.lload_n 0, 1) := dk_30 (dk_at dksX4_isKept_2 16 rfl rfl)
theorem dX4_isKept_65 : decode cX4_isKept 65 = .ok (.ldc2_w 207, 3) := dk_20 0 207 (dk_at dksX4_isKept_2 17 rfl rfl)
theorem dX4_isKept_68 : decode cX4_isKept 68 = .ok (.lcmp, 1) := dk_148 (dk_at dksX4_isKept_2 20 rfl rfl)
theorem dX4_isKept_69 : decode cX4_isKept 69 = .ok (.ifCond .eq 19, 3) := dk_153 0 19 (dk_at dksX4_isKept_2 21 rfl rfl)
theorem dX4_isKept_72 : decode cX4_isKept 72 = .ok (.lload_n 0, 1) := dk_30 (dk_at dksX4_isKept_3 0 rfl rfl)
theorem dX4_isKept_73 : decode cX4_isKept 73 = .ok (.ldc2_w 209, 3) := dk_20 0 209 (dk_at dksX4_isKept_3 1 rfl rfl)
theorem dX4_isKept_76 : decode cX4_isKept 76 = .ok (.lcmp, 1) := dk_148 (dk_at dksX4_isKept_3 4 rfl rfl)
theorem dX4_isKept_77 : decode cX4_isKept 77 = .ok (.ifCond .eq 11, 3) := dk_153 0 11 (dk_at dksX4_isKept_3 5 rfl rfl)
theorem dX4_isKept_80 : decode cX4_isKept 80 = .ok (.lload_n 0, 1) := dk_30 (dk_at dksX4_isKept_3 8 rfl rfl)
theorem dX4_isKept_81 : decode cX4_isKept 81 = .ok (.ldc2_w 211, 3) := dk_20 0 211 (dk_at dksX4_isKept_3 9 rfl rfl)
theorem dX4_isKept_84 : decode cX4_isKept 84 = .ok (.lcmp, 1) := dk_148 (dk_at dksX4_isKept_3 12 rfl rfl)
theorem dX4_isKept_85 : decode cX4_isKept 85 = .ok (.ifCond .ne 7, 3) := dk_154 0 7 (dk_at dksX4_isKept_3 13 rfl rfl)
theorem dX4_isKept_88 : decode cX4_isKept 88 = .ok (.iconst 1, 1) := dk_4 (dk_at dksX4_isKept_3 16 rfl rfl)
theorem dX4_isKept_89 : decode cX4_isKept 89 = .ok (.goto 4, 3) := dk_167 0 4 (dk_at dksX4_isKept_3 17 rfl rfl)
theorem dX4_isKept_92 : decode cX4_isKept 92 = .ok (.iconst 0, 1) := dk_3 (dk_at dksX4_isKept_3 20 rfl rfl)
theorem dX4_isKept_93 : decode cX4_isKept 93 = .ok (.istore_n 2, 1) := dk_61 (dk_at dksX4_isKept_3 21 rfl rfl)
theorem dX4_isKept_94 : decode cX4_isKept 94 = .ok (.iload_n 2, 1) := dk_28 (dk_at dksX4_isKept_3 22 rfl rfl)
theorem dX4_isKept_95 : decode cX4_isKept 95 = .ok (.ifCond .ne 83, 3) := dk_154 0 83 (dk_at dksX4_isKept_4 0 rfl rfl)
theorem dX4_isKept_98 : decode cX4_isKept 98 = .ok (.lload_n 0, 1) := dk_30 (dk_at dksX4_isKept_4 3 rfl rfl)
theorem dX4_isKept_99 : decode cX4_isKept 99 = .ok (.ldc2_w 213, 3) := dk_20 0 213 (dk_at dksX4_isKept_4 4 rfl rfl)
theorem dX4_isKept_102 : decode cX4_isKept 102 = .ok (.lcmp, 1) := dk_148 (dk_at dksX4_isKept_4 7 rfl rfl)
theorem dX4_isKept_103 : decode cX4_isKept 103 = .ok (.ifCond .eq 75, 3) := dk_153 0 75 (dk_at dksX4_isKept_4 8 rfl rfl)
theorem dX4_isKept_106 : decode cX4_isKept 106 = .ok (.lload_n 0, 1) := dk_30 (dk_at dksX4_isKept_4 11 rfl rfl)
theorem dX4_isKept_107 : decode cX4_isKept 107 = .ok (.ldc2_w 215, 3) := dk_20 0 215 (dk_at dksX4_isKept_4 12 rfl rfl)
theorem dX4_isKept_110 : decode cX4_isKept 110 = .ok (.lcmp, 1) := dk_148 (dk_at dksX4_isKept_4 15 rfl rfl)
theorem dX4_isKept_111 : decode cX4_isKept 111 = .ok (.ifCond .eq 67, 3) := dk_153 0 67 (dk_at dksX4_isKept_4 16 rfl rfl)
theorem dX4_isKept_114 : decode cX4_isKept 114 = .ok (.lload_n 0, 1) := dk_30 (dk_at dksX4_isKept_4 19 rfl rfl)
theorem dX4_isKept_115 : decode cX4_isKept 115 = .ok (.ldc2_w 217, 3) := dk_20 0 217 (dk_at dksX4_isKept_4 20 rfl rfl)
theorem dX4_isKept_118 : decode cX4_isKept 118 = .ok (.lcmp, 1) := dk_148 (dk_at dksX4_isKept_4 23 rfl rfl)
theorem dX4_isKept_119 : decode cX4_isKept 119 = .ok (.ifCond .eq 59, 3) := dk_153 0 59 (dk_at dksX4_isKept_5 0 rfl rfl)
theorem dX4_isKept_122 : decode cX4_isKept 122 = .ok (.lload_n 0, 1) := dk_30 (dk_at dksX4_isKept_5 3 rfl rfl)
theorem dX4_isKept_123 : decode cX4_isKept 123 = .ok (.ldc2_w 219, 3) := dk_20 0 219 (dk_at dksX4_isKept_5 4 rfl rfl)
theorem dX4_isKept_126 : decode cX4_isKept 126 = .ok (.lcmp, 1) := dk_148 (dk_at dksX4_isKept_5 7 rfl rfl)
theorem dX4_isKept_127 : decode cX4_isKept 127 = .ok (.ifCond .eq 51, 3) := dk_153 0 51 (dk_at dksX4_isKept_5 8 rfl rfl)
theorem dX4_isKept_130 : decode cX4_isKept 130 = .ok (.lload_n 0, 1) := dk_30 (dk_at dksX4_isKept_5 11 rfl rfl)
theorem dX4_isKept_131 : decode cX4_isKept 131 = .ok (.ldc2_w 221, 3) := dk_20 0 221 (dk_at dksX4_isKept_5 12 rfl rfl)
theorem dX4_isKept_134 : decode cX4_isKept 134 = .ok (.lcmp, 1) := dk_148 (dk_at dksX4_isKept_5 15 rfl rfl)
theorem dX4_isKept_135 : decode cX4_isKept 135 = .ok (.ifCond .eq 43, 3) := dk_153 0 43 (dk_at dksX4_isKept_5 16 rfl rfl)
theorem dX4_isKept_138 : decode cX4_isKept 138 = .ok (.lload_n 0, 1) := dk_30 (dk_at dksX4_isKept_5 19 rfl rfl)
theorem dX4_isKept_139 : decode cX4_isKept 139 = .ok (.ldc2_w 223, 3) := dk_20 0 223 (dk_at dksX4_isKept_5 20 rfl rfl)
theorem dX4_isKept_142 : decode cX4_isKept 142 = .ok (.lcmp, 1) := dk_148 (dk_at dksX4_isKept_5 23 rfl rfl)
theorem dX4_isKept_143 : decode cX4_isKept 143 = .ok (.ifCond .eq 35, 3) := dk_153 0 35 (dk_at dksX4_isKept_6 0 rfl rfl)
theorem dX4_isKept_146 : decode cX4_isKept 146 = .ok (.lload_n 0, 1) := dk_30 (dk_at dksX4_isKept_6 3 rfl rfl)
theorem dX4_isKept_147 : decode cX4_isKept 147 = .ok (.ldc2_w 225, 3) := dk_20 0 225 (dk_at dksX4_isKept_6 4 rfl rfl)
theorem dX4_isKept_150 : decode cX4_isKept 150 = .ok (.lcmp, 1) := dk_148 (dk_at dksX4_isKept_6 7 rfl rfl)
theorem dX4_isKept_151 : decode cX4_isKept 151 = .ok (.ifCond .eq 27, 3) := dk_153 0 27 (dk_at dksX4_isKept_6 8 rfl rfl)
theorem dX4_isKept_154 : decode cX4_isKept 154 = .ok (.lload_n 0, 1) := dk_30 (dk_at dksX4_isKept_6 11 rfl rfl)
theorem dX4_isKept_155 : decode cX4_isKept 155 = .ok (.ldc2_w 227, 3) := dk_20 0 227 (dk_at dksX4_isKept_6 12 rfl rfl)
theorem dX4_isKept_158 : decode cX4_isKept 158 = .ok (.lcmp, 1) := dk_148 (dk_at dksX4_isKept_6 15 rfl rfl)
theorem dX4_isKept_159 : decode cX4_isKept 159 = .ok (.ifCond .eq 19, 3) := dk_153 0 19 (dk_at dksX4_isKept_6 16 rfl rfl)
theorem dX4_isKept_162 : decode cX4_isKept 162 = .ok (.lload_n 0, 1) := dk_30 (dk_at dksX4_isKept_6 19 rfl rfl)
theorem dX4_isKept_163 : decode cX4_isKept 163 = .ok (.ldc2_w 229, 3) := dk_20 0 229 (dk_at dksX4_isKept_6 20 rfl rfl)
theorem dX4_isKept_166 : decode cX4_isKept 166 = .ok (.lcmp, 1) := dk_148 (dk_at dksX4_isKept_6 23 rfl rfl)
theorem dX4_isKept_167 : decode cX4_isKept 167 = .ok (.ifCond .eq 11, 3) := dk_153 0 11 (dk_at dksX4_isKept_7 0 rfl rfl)
theorem dX4_isKept_170 : decode cX4_isKept 170 = .ok (.lload_n 0, 1) := dk_30 (dk_at dksX4_isKept_7 3 rfl rfl)
theorem dX4_isKept_171 : decode cX4_isKept 171 = .ok (.ldc2_w 231, 3) := dk_20 0 231 (dk_at dksX4_isKept_7 4 rfl rfl)
theorem dX4_isKept_174 : decode cX4_isKept 174 = .ok (.lcmp, 1) := dk_148 (dk_at dksX4_isKept_7 7 rfl rfl)
theorem dX4_isKept_175 : decode cX4_isKept 175 = .ok (.ifCond .ne 7, 3) := dk_154 0 7 (dk_at dksX4_isKept_7 8 rfl rfl)
theorem dX4_isKept_178 : decode cX4_isKept 178 = .ok (.iconst 1, 1) := dk_4 (dk_at dksX4_isKept_7 11 rfl rfl)
theorem dX4_isKept_179 : decode cX4_isKept 179 = .ok (.goto 4, 3) := dk_167 0 4 (dk_at dksX4_isKept_7 12 rfl rfl)
theorem dX4_isKept_182 : decode cX4_isKept 182 = .ok (.iconst 0, 1) := dk_3 (dk_at dksX4_isKept_7 15 rfl rfl)
theorem dX4_isKept_183 : decode cX4_isKept 183 = .ok (.ireturn, 1) := dk_172 (dk_at dksX4_isKept_7 16 rfl rfl)
abbrev cX4_isDigit : ByteArray := prog_22_method_4_code
def yX4_isDigit : MethodName := ⟨RX4, "isDigit", "(I)Z"⟩
def dkwX4_isDigit_0 : List UInt8 := [26, 16, 48, 161, 0, 13, 26, 16, 57, 163, 0, 7, 4, 167, 0, 4, 3, 172]
abbrev dktX4_isDigit_0 : List UInt8 := dkwX4_isDigit_0 ++ []
theorem dksX4_isDigit_0 : cX4_isDigit.data.toList.drop 0 = dktX4_isDigit_0 := by decide +kernel
theorem dX4_isDigit_0 : decode cX4_isDigit 0 = .ok (.iload_n 0, 1) := dk_26 (dk_at dksX4_isDigit_0 0 rfl rfl)
theorem dX4_isDigit_1 : decode cX4_isDigit 1 = .ok (.bipush 48, 2) := dk_16 48 (dk_at dksX4_isDigit_0 1 rfl rfl)
theorem dX4_isDigit_3 : decode cX4_isDigit 3 = .ok (.if_icmp .lt 13, 3) := dk_161 0 13 (dk_at dksX4_isDigit_0 3 rfl rfl)
theorem dX4_isDigit_6 : decode cX4_isDigit 6 = .ok (.iload_n 0, 1) := dk_26 (dk_at dksX4_isDigit_0 6 rfl rfl)
theorem dX4_isDigit_7 : decode cX4_isDigit 7 = .ok (.bipush 57, 2) := dk_16 57 (dk_at dksX4_isDigit_0 7 rfl rfl)
theorem dX4_isDigit_9 : decode cX4_isDigit 9 = .ok (.if_icmp .gt 7, 3) := dk_163 0 7 (dk_at dksX4_isDigit_0 9 rfl rfl)
theorem dX4_isDigit_12 : decode cX4_isDigit 12 = .ok (.iconst 1, 1) := dk_4 (dk_at dksX4_isDigit_0 12 rfl rfl)
theorem dX4_isDigit_13 : decode cX4_isDigit 13 = .ok (.goto 4, 3) := dk_167 0 4 (dk_at dksX4_isDigit_0 13 rfl rfl)
theorem dX4_isDigit_16 : decode cX4_isDigit 16 = .ok (.iconst 0, 1) := dk_3 (dk_at dksX4_isDigit_0 16 rfl rfl)
theorem dX4_isDigit_17 : decode cX4_isDigit 17 = .ok (.ireturn, 1) := dk_172 (dk_at dksX4_isDigit_0 17 rfl rfl)
abbrev cX4_isSign : ByteArray := prog_22_method_8_code
def yX4_isSign : MethodName := ⟨RX4, "isSign", "(I)Z"⟩
def dkwX4_isSign_2 : List UInt8 := [26, 16, 42, 159, 0, 15, 26, 16, 47, 159, 0, 9, 26, 16, 37, 160, 0, 7, 4, 167, 0, 4, 3, 172]
abbrev dktX4_isSign_2 : List UInt8 := dkwX4_isSign_2 ++ []
def dkwX4_isSign_1 : List UInt8 := [26, 16, 62, 159, 0, 39, 26, 16, 61, 159, 0, 33, 26, 16, 43, 159, 0, 27, 26, 16, 45, 159, 0, 21]
abbrev dktX4_isSign_1 : List UInt8 := dkwX4_isSign_1 ++ dktX4_isSign_2
def dkwX4_isSign_0 : List UInt8 := [26, 16, 59, 159, 0, 63, 26, 16, 40, 159, 0, 57, 26, 16, 41, 159, 0, 51, 26, 16, 60, 159, 0, 45]
abbrev dktX4_isSign_0 : List UInt8 := dkwX4_isSign_0 ++ dktX4_isSign_1
theorem dksX4_isSign_0 : cX4_isSign.data.toList.drop 0 = dktX4_isSign_0 := by decide +kernel
theorem dksX4_isSign_1 : cX4_isSign.data.toList.drop 24 = dktX4_isSign_1 := dk_seg dksX4_isSign_0 24 rfl rfl
theorem dksX4_isSign_2 : cX4_isSign.data.toList.drop 48 = dktX4_isSign_2 := dk_seg dksX4_isSign_1 24 rfl rfl
theorem dX4_isSign_0 : decode cX4_isSign 0 = .ok (.iload_n 0, 1) := dk_26 (dk_at dksX4_isSign_0 0 rfl rfl)
theorem dX4_isSign_1 : decode cX4_isSign 1 = .ok (.bipush 59, 2) := dk_16 59 (dk_at dksX4_isSign_0 1 rfl rfl)
theorem dX4_isSign_3 : decode cX4_isSign 3 = .ok (.if_icmp .eq 63, 3) := dk_159 0 63 (dk_at dksX4_isSign_0 3 rfl rfl)
theorem dX4_isSign_6 : decode cX4_isSign 6 = .ok (.iload_n 0, 1) := dk_26 (dk_at dksX4_isSign_0 6 rfl rfl)
theorem dX4_isSign_7 : decode cX4_isSign 7 = .ok (.bipush 40, 2) := dk_16 40 (dk_at dksX4_isSign_0 7 rfl rfl)
theorem dX4_isSign_9 : decode cX4_isSign 9 = .ok (.if_icmp .eq 57, 3) := dk_159 0 57 (dk_at dksX4_isSign_0 9 rfl rfl)
theorem dX4_isSign_12 : decode cX4_isSign 12 = .ok (.iload_n 0, 1) := dk_26 (dk_at dksX4_isSign_0 12 rfl rfl)
theorem dX4_isSign_13 : decode cX4_isSign 13 = .ok (.bipush 41, 2) := dk_16 41 (dk_at dksX4_isSign_0 13 rfl rfl)
theorem dX4_isSign_15 : decode cX4_isSign 15 = .ok (.if_icmp .eq 51, 3) := dk_159 0 51 (dk_at dksX4_isSign_0 15 rfl rfl)
theorem dX4_isSign_18 : decode cX4_isSign 18 = .ok (.iload_n 0, 1) := dk_26 (dk_at dksX4_isSign_0 18 rfl rfl)
theorem dX4_isSign_19 : decode cX4_isSign 19 = .ok (.bipush 60, 2) := dk_16 60 (dk_at dksX4_isSign_0 19 rfl rfl)
theorem dX4_isSign_21 : decode cX4_isSign 21 = .ok (.if_icmp .eq 45, 3) := dk_159 0 45 (dk_at dksX4_isSign_0 21 rfl rfl)
theorem dX4_isSign_24 : decode cX4_isSign 24 = .ok (.iload_n 0, 1) := dk_26 (dk_at dksX4_isSign_1 0 rfl rfl)
theorem dX4_isSign_25 : decode cX4_isSign 25 = .ok (.bipush 62, 2) := dk_16 62 (dk_at dksX4_isSign_1 1 rfl rfl)
theorem dX4_isSign_27 : decode cX4_isSign 27 = .ok (.if_icmp .eq 39, 3) := dk_159 0 39 (dk_at dksX4_isSign_1 3 rfl rfl)
theorem dX4_isSign_30 : decode cX4_isSign 30 = .ok (.iload_n 0, 1) := dk_26 (dk_at dksX4_isSign_1 6 rfl rfl)
theorem dX4_isSign_31 : decode cX4_isSign 31 = .ok (.bipush 61, 2) := dk_16 61 (dk_at dksX4_isSign_1 7 rfl rfl)
theorem dX4_isSign_33 : decode cX4_isSign 33 = .ok (.if_icmp .eq 33, 3) := dk_159 0 33 (dk_at dksX4_isSign_1 9 rfl rfl)
theorem dX4_isSign_36 : decode cX4_isSign 36 = .ok (.iload_n 0, 1) := dk_26 (dk_at dksX4_isSign_1 12 rfl rfl)
theorem dX4_isSign_37 : decode cX4_isSign 37 = .ok (.bipush 43, 2) := dk_16 43 (dk_at dksX4_isSign_1 13 rfl rfl)
theorem dX4_isSign_39 : decode cX4_isSign 39 = .ok (.if_icmp .eq 27, 3) := dk_159 0 27 (dk_at dksX4_isSign_1 15 rfl rfl)
theorem dX4_isSign_42 : decode cX4_isSign 42 = .ok (.iload_n 0, 1) := dk_26 (dk_at dksX4_isSign_1 18 rfl rfl)
theorem dX4_isSign_43 : decode cX4_isSign 43 = .ok (.bipush 45, 2) := dk_16 45 (dk_at dksX4_isSign_1 19 rfl rfl)
theorem dX4_isSign_45 : decode cX4_isSign 45 = .ok (.if_icmp .eq 21, 3) := dk_159 0 21 (dk_at dksX4_isSign_1 21 rfl rfl)
theorem dX4_isSign_48 : decode cX4_isSign 48 = .ok (.iload_n 0, 1) := dk_26 (dk_at dksX4_isSign_2 0 rfl rfl)
theorem dX4_isSign_49 : decode cX4_isSign 49 = .ok (.bipush 42, 2) := dk_16 42 (dk_at dksX4_isSign_2 1 rfl rfl)
theorem dX4_isSign_51 : decode cX4_isSign 51 = .ok (.if_icmp .eq 15, 3) := dk_159 0 15 (dk_at dksX4_isSign_2 3 rfl rfl)
theorem dX4_isSign_54 : decode cX4_isSign 54 = .ok (.iload_n 0, 1) := dk_26 (dk_at dksX4_isSign_2 6 rfl rfl)
theorem dX4_isSign_55 : decode cX4_isSign 55 = .ok (.bipush 47, 2) := dk_16 47 (dk_at dksX4_isSign_2 7 rfl rfl)
theorem dX4_isSign_57 : decode cX4_isSign 57 = .ok (.if_icmp .eq 9, 3) := dk_159 0 9 (dk_at dksX4_isSign_2 9 rfl rfl)
theorem dX4_isSign_60 : decode cX4_isSign 60 = .ok (.iload_n 0, 1) := dk_26 (dk_at dksX4_isSign_2 12 rfl rfl)
theorem dX4_isSign_61 : decode cX4_isSign 61 = .ok (.bipush 37, 2) := dk_16 37 (dk_at dksX4_isSign_2 13 rfl rfl)
theorem dX4_isSign_63 : decode cX4_isSign 63 = .ok (.if_icmp .ne 7, 3) := dk_160 0 7 (dk_at dksX4_isSign_2 15 rfl rfl)
theorem dX4_isSign_66 : decode cX4_isSign 66 = .ok (.iconst 1, 1) := dk_4 (dk_at dksX4_isSign_2 18 rfl rfl)
theorem dX4_isSign_67 : decode cX4_isSign 67 = .ok (.goto 4, 3) := dk_167 0 4 (dk_at dksX4_isSign_2 19 rfl rfl)
theorem dX4_isSign_70 : decode cX4_isSign 70 = .ok (.iconst 0, 1) := dk_3 (dk_at dksX4_isSign_2 22 rfl rfl)
theorem dX4_isSign_71 : decode cX4_isSign 71 = .ok (.ireturn, 1) := dk_172 (dk_at dksX4_isSign_2 23 rfl rfl)
abbrev cX4_isGood : ByteArray := prog_22_method_6_code
def yX4_isGood : MethodName := ⟨RX4, "isGood", "()Z"⟩
def dkwX4_isGood_0 : List UInt8 := [42, 180, 0, 188, 154, 0, 7, 4, 167, 0, 4, 3, 172]
abbrev dktX4_isGood_0 : List UInt8 := dkwX4_isGood_0 ++ []
theorem dksX4_isGood_0 : cX4_isGood.data.toList.drop 0 = dktX4_isGood_0 := by decide +kernel
theorem dX4_isGood_0 : decode cX4_isGood 0 = .ok (.aload_n 0, 1) := dk_42 (dk_at dksX4_isGood_0 0 rfl rfl)
theorem dX4_isGood_1 : decode cX4_isGood 1 = .ok (.getfield 188, 3) := dk_180 0 188 (dk_at dksX4_isGood_0 1 rfl rfl)
theorem dX4_isGood_4 : decode cX4_isGood 4 = .ok (.ifCond .ne 7, 3) := dk_154 0 7 (dk_at dksX4_isGood_0 4 rfl rfl)
theorem dX4_isGood_7 : decode cX4_isGood 7 = .ok (.iconst 1, 1) := dk_4 (dk_at dksX4_isGood_0 7 rfl rfl)
theorem dX4_isGood_8 : decode cX4_isGood 8 = .ok (.goto 4, 3) := dk_167 0 4 (dk_at dksX4_isGood_0 8 rfl rfl)
theorem dX4_isGood_11 : decode cX4_isGood 11 = .ok (.iconst 0, 1) := dk_3 (dk_at dksX4_isGood_0 11 rfl rfl)
theorem dX4_isGood_12 : decode cX4_isGood 12 = .ok (.ireturn, 1) := dk_172 (dk_at dksX4_isGood_0 12 rfl rfl)
abbrev cX4_readLine : ByteArray := prog_22_method_19_code
def yX4_readLine : MethodName := ⟨RX4, "readLine", "()V"⟩
def dkwX4_readLine_13 : List UInt8 := [17, 3, 231, 182, 1, 32, 79, 42, 42, 16, 59, 182, 1, 79, 182, 1, 28, 177]
abbrev dktX4_readLine_13 : List UInt8 := dkwX4_readLine_13 ++ []
def dkwX4_readLine_12 : List UInt8 := [154, 0, 30, 42, 180, 0, 88, 42, 180, 1, 36, 4, 84, 42, 180, 0, 39, 42, 180, 1, 36, 42, 3]
abbrev dktX4_readLine_12 : List UInt8 := dkwX4_readLine_12 ++ dktX4_readLine_13
def dkwX4_readLine_11 : List UInt8 := [84, 42, 180, 0, 36, 42, 180, 1, 36, 42, 4, 16, 8, 182, 1, 32, 79, 31, 20, 0, 215, 148]
abbrev dktX4_readLine_11 : List UInt8 := dkwX4_readLine_11 ++ dktX4_readLine_12
def dkwX4_readLine_10 : List UInt8 := [4, 84, 42, 3, 182, 1, 75, 31, 20, 0, 213, 148, 154, 0, 29, 42, 180, 0, 85, 42, 180, 1, 36, 4]
abbrev dktX4_readLine_10 : List UInt8 := dkwX4_readLine_10 ++ dktX4_readLine_11
def dkwX4_readLine_9 : List UInt8 := [180, 1, 36, 92, 46, 4, 96, 79, 31, 20, 0, 211, 148, 154, 0, 18, 42, 180, 0, 81, 42, 180, 1, 36]
abbrev dktX4_readLine_9 : List UInt8 := dkwX4_readLine_9 ++ dktX4_readLine_10
def dkwX4_readLine_8 : List UInt8 := [180, 0, 27, 42, 180, 1, 36, 46, 96, 42, 3, 16, 99, 182, 1, 32, 79, 42, 180, 0, 27, 42]
abbrev dktX4_readLine_8 : List UInt8 := dkwX4_readLine_8 ++ dktX4_readLine_9
def dkwX4_readLine_7 : List UInt8 := [182, 1, 72, 31, 20, 0, 209, 148, 154, 0, 44, 42, 180, 0, 72, 8, 42, 180, 1, 36, 104, 42]
abbrev dktX4_readLine_7 : List UInt8 := dkwX4_readLine_7 ++ dktX4_readLine_8
def dkwX4_readLine_6 : List UInt8 := [182, 1, 65, 31, 20, 0, 203, 148, 154, 0, 7, 42, 182, 1, 69, 31, 20, 0, 205, 148, 154, 0, 7, 42]
abbrev dktX4_readLine_6 : List UInt8 := dkwX4_readLine_6 ++ dktX4_readLine_7
def dkwX4_readLine_5 : List UInt8 := [182, 1, 65, 31, 20, 0, 201, 148, 154, 0, 17, 42, 42, 180, 0, 57, 42, 180, 0, 63, 16, 9]
abbrev dktX4_readLine_5 : List UInt8 := dkwX4_readLine_5 ++ dktX4_readLine_6
def dkwX4_readLine_4 : List UInt8 := [182, 1, 62, 31, 20, 0, 199, 148, 154, 0, 17, 42, 42, 180, 0, 54, 42, 180, 0, 60, 16, 60]
abbrev dktX4_readLine_4 : List UInt8 := dkwX4_readLine_4 ++ dktX4_readLine_5
def dkwX4_readLine_3 : List UInt8 := [80, 42, 180, 0, 20, 42, 180, 1, 36, 92, 46, 4, 96, 79, 31, 20, 0, 193, 148, 154, 0, 7, 42]
abbrev dktX4_readLine_3 : List UInt8 := dkwX4_readLine_3 ++ dktX4_readLine_4
def dkwX4_readLine_2 : List UInt8 := [6, 42, 180, 1, 36, 104, 42, 180, 0, 20, 42, 180, 1, 36, 46, 96, 42, 42, 182, 1, 54, 182, 1, 58]
abbrev dktX4_readLine_2 : List UInt8 := dkwX4_readLine_2 ++ dktX4_readLine_3
def dkwX4_readLine_1 : List UInt8 := [42, 182, 1, 15, 154, 0, 4, 177, 42, 182, 1, 19, 31, 20, 0, 191, 148, 154, 0, 45, 42, 180, 0, 91]
abbrev dktX4_readLine_1 : List UInt8 := dkwX4_readLine_1 ++ dktX4_readLine_2
def dkwX4_readLine_0 : List UInt8 := [42, 180, 0, 250, 64, 42, 180, 0, 243, 6, 160, 0, 10, 42, 182, 1, 51, 153, 0, 7, 42, 182, 1, 22]
abbrev dktX4_readLine_0 : List UInt8 := dkwX4_readLine_0 ++ dktX4_readLine_1
theorem dksX4_readLine_0 : cX4_readLine.data.toList.drop 0 = dktX4_readLine_0 := by decide +kernel
theorem dksX4_readLine_1 : cX4_readLine.data.toList.drop 24 = dktX4_readLine_1 := dk_seg dksX4_readLine_0 24 rfl rfl
theorem dksX4_readLine_2 : cX4_readLine.data.toList.drop 48 = dktX4_readLine_2 := dk_seg dksX4_readLine_1 24 rfl rfl
theorem dksX4_readLine_3 : cX4_readLine.data.toList.drop 72 = dktX4_readLine_3 := dk_seg dksX4_readLine_2 24 rfl rfl
theorem dksX4_readLine_4 : cX4_readLine.data.toList.drop 95 = dktX4_readLine_4 := dk_seg dksX4_readLine_3 23 rfl rfl
theorem dksX4_readLine_5 : cX4_readLine.data.toList.drop 117 = dktX4_readLine_5 := dk_seg dksX4_readLine_4 22 rfl rfl
theorem dksX4_readLine_6 : cX4_readLine.data.toList.drop 139 = dktX4_readLine_6 := dk_seg dksX4_readLine_5 22 rfl rfl
theorem dksX4_readLine_7 : cX4_readLine.data.toList.drop 163 = dktX4_readLine_7 := dk_seg dksX4_readLine_6 24 rfl rfl
theorem dksX4_readLine_8 : cX4_readLine.data.toList.drop 185 = dktX4_readLine_8 := dk_seg dksX4_readLine_7 22 rfl rfl
theorem dksX4_readLine_9 : cX4_readLine.data.toList.drop 207 = dktX4_readLine_9 := dk_seg dksX4_readLine_8 22 rfl rfl
theorem dksX4_readLine_10 : cX4_readLine.data.toList.drop 231 = dktX4_readLine_10 := dk_seg dksX4_readLine_9 24 rfl rfl
theorem dksX4_readLine_11 : cX4_readLine.data.toList.drop 255 = dktX4_readLine_11 := dk_seg dksX4_readLine_10 24 rfl rfl
theorem dksX4_readLine_12 : cX4_readLine.data.toList.drop 277 = dktX4_readLine_12 := dk_seg dksX4_readLine_11 22 rfl rfl
theorem dksX4_readLine_13 : cX4_readLine.data.toList.drop 300 = dktX4_readLine_13 := dk_seg dksX4_readLine_12 23 rfl rfl
theorem dX4_readLine_0 : decode cX4_readLine 0 = .ok (.aload_n 0, 1) := dk_42 (dk_at dksX4_readLine_0 0 rfl rfl)
theorem dX4_readLine_1 : decode cX4_readLine 1 = .ok (.getfield 250, 3) := dk_180 0 250 (dk_at dksX4_readLine_0 1 rfl rfl)
theorem dX4_readLine_4 : decode cX4_readLine 4 = .ok (.lstore_n 1, 1) := dk_64 (dk_at dksX4_readLine_0 4 rfl rfl)
theorem dX4_readLine_5 : decode cX4_readLine 5 = .ok (.aload_n 0, 1) := dk_42 (dk_at dksX4_readLine_0 5 rfl rfl)
theorem dX4_readLine_6 : decode cX4_readLine 6 = .ok (.getfield 243, 3) := dk_180 0 243 (dk_at dksX4_readLine_0 6 rfl rfl)
theorem dX4_readLine_9 : decode cX4_readLine 9 = .ok (.iconst 3, 1) := dk_6 (dk_at dksX4_readLine_0 9 rfl rfl)
theorem dX4_readLine_10 : decode cX4_readLine 10 = .ok (.if_icmp .ne 10, 3) := dk_160 0 10 (dk_at dksX4_readLine_0 10 rfl rfl)
theorem dX4_readLine_13 : decode cX4_readLine 13 = .ok (.aload_n 0, 1) := dk_42 (dk_at dksX4_readLine_0 13 rfl rfl)
theorem dX4_readLine_14 : decode cX4_readLine 14 = .ok (.invokevirtual 307, 3) := dk_182 1 51 (dk_at dksX4_readLine_0 14 rfl rfl)
theorem dX4_readLine_17 : decode cX4_readLine 17 = .ok (.ifCond .eq 7, 3) := dk_153 0 7 (dk_at dksX4_readLine_0 17 rfl rfl)
theorem dX4_readLine_20 : decode cX4_readLine 20 = .ok (.aload_n 0, 1) := dk_42 (dk_at dksX4_readLine_0 20 rfl rfl)
theorem dX4_readLine_21 : decode cX4_readLine 21 = .ok (.invokevirtual 278, 3) := dk_182 1 22 (dk_at dksX4_readLine_0 21 rfl rfl)
theorem dX4_readLine_24 : decode cX4_readLine 24 = .ok (.aload_n 0, 1) := dk_42 (dk_at dksX4_readLine_1 0 rfl rfl)
theorem dX4_readLine_25 : decode cX4_readLine 25 = .ok (.invokevirtual 271, 3) := dk_182 1 15 (dk_at dksX4_readLine_1 1 rfl rfl)
theorem dX4_readLine_28 : decode cX4_readLine 28 = .ok (.ifCond .ne 4, 3) := dk_154 0 4 (dk_at dksX4_readLine_1 4 rfl rfl)
theorem dX4_readLine_31 : decode cX4_readLine 31 = .ok (.return_, 1) := dk_177 (dk_at dksX4_readLine_1 7 rfl rfl)
theorem dX4_readLine_32 : decode cX4_readLine 32 = .ok (.aload_n 0, 1) := dk_42 (dk_at dksX4_readLine_1 8 rfl rfl)
theorem dX4_readLine_33 : decode cX4_readLine 33 = .ok (.invokevirtual 275, 3) := dk_182 1 19 (dk_at dksX4_readLine_1 9 rfl rfl)
theorem dX4_readLine_36 : decode cX4_readLine 36 = .ok (.lload_n 1, 1) := dk_31 (dk_at dksX4_readLine_1 12 rfl rfl)
theorem dX4_readLine_37 : decode cX4_readLine 37 = .ok (.ldc2_w 191, 3) := dk_20 0 191 (dk_at dksX4_readLine_1 13 rfl rfl)
theorem dX4_readLine_40 : decode cX4_readLine 40 = .ok (.lcmp, 1) := dk_148 (dk_at dksX4_readLine_1 16 rfl rfl)
theorem dX4_readLine_41 : decode cX4_readLine 41 = .ok (.ifCond .ne 45, 3) := dk_154 0 45 (dk_at dksX4_readLine_1 17 rfl rfl)
theorem dX4_readLine_44 : decode cX4_readLine 44 = .ok (.aload_n 0, 1) := dk_42 (dk_at dksX4_readLine_1 20 rfl rfl)
theorem dX4_readLine_45 : decode cX4_readLine 45 = .ok (.getfield 91, 3) := dk_180 0 91 (dk_at dksX4_readLine_1 21 rfl rfl)
theorem dX4_readLine_48 : decode cX4_readLine 48 = .ok (.iconst 3, 1) := dk_6 (dk_at dksX4_readLine_2 0 rfl rfl)
theorem dX4_readLine_49 : decode cX4_readLine 49 = .ok (.aload_n 0, 1) := dk_42 (dk_at dksX4_readLine_2 1 rfl rfl)
theorem dX4_readLine_50 : decode cX4_readLine 50 = .ok (.getfield 292, 3) := dk_180 1 36 (dk_at dksX4_readLine_2 2 rfl rfl)
theorem dX4_readLine_53 : decode cX4_readLine 53 = .ok (.imul, 1) := dk_104 (dk_at dksX4_readLine_2 5 rfl rfl)
theorem dX4_readLine_54 : decode cX4_readLine 54 = .ok (.aload_n 0, 1) := dk_42 (dk_at dksX4_readLine_2 6 rfl rfl)
theorem dX4_readLine_55 : decode cX4_readLine 55 = .ok (.getfield 20, 3) := dk_180 0 20 (dk_at dksX4_readLine_2 7 rfl rfl)
theorem dX4_readLine_58 : decode cX4_readLine 58 = .ok (.aload_n 0, 1) := dk_42 (dk_at dksX4_readLine_2 10 rfl rfl)
theorem dX4_readLine_59 : decode cX4_readLine 59 = .ok (.getfield 292, 3) := dk_180 1 36 (dk_at dksX4_readLine_2 11 rfl rfl)
theorem dX4_readLine_62 : decode cX4_readLine 62 = .ok (.iaload, 1) := dk_46 (dk_at dksX4_readLine_2 14 rfl rfl)
theorem dX4_readLine_63 : decode cX4_readLine 63 = .ok (.iadd, 1) := dk_96 (dk_at dksX4_readLine_2 15 rfl rfl)
theorem dX4_readLine_64 : decode cX4_readLine 64 = .ok (.aload_n 0, 1) := dk_42 (dk_at dksX4_readLine_2 16 rfl rfl)
theorem dX4_readLine_65 : decode cX4_readLine 65 = .ok (.aload_n 0, 1) := dk_42 (dk_at dksX4_readLine_2 17 rfl rfl)
theorem dX4_readLine_66 : decode cX4_readLine 66 = .ok (.invokevirtual 310, 3) := dk_182 1 54 (dk_at dksX4_readLine_2 18 rfl rfl)
theorem dX4_readLine_69 : decode cX4_readLine 69 = .ok (.invokevirtual 314, 3) := dk_182 1 58 (dk_at dksX4_readLine_2 21 rfl rfl)
theorem dX4_readLine_72 : decode cX4_readLine 72 = .ok (.lastore, 1) := dk_80 (dk_at dksX4_readLine_3 0 rfl rfl)
theorem dX4_readLine_73 : decode cX4_readLine 73 = .ok (.aload_n 0, 1) := dk_42 (dk_at dksX4_readLine_3 1 rfl rfl)
theorem dX4_readLine_74 : decode cX4_readLine 74 = .ok (.getfield 20, 3) := dk_180 0 20 (dk_at dksX4_readLine_3 2 rfl rfl)
theorem dX4_readLine_77 : decode cX4_readLine 77 = .ok (.aload_n 0, 1) := dk_42 (dk_at dksX4_readLine_3 5 rfl rfl)
theorem dX4_readLine_78 : decode cX4_readLine 78 = .ok (.getfield 292, 3) := dk_180 1 36 (dk_at dksX4_readLine_3 6 rfl rfl)
theorem dX4_readLine_81 : decode cX4_readLine 81 = .ok (.dup2, 1) := dk_92 (dk_at dksX4_readLine_3 9 rfl rfl)
theorem dX4_readLine_82 : decode cX4_readLine 82 = .ok (.iaload, 1) := dk_46 (dk_at dksX4_readLine_3 10 rfl rfl)
theorem dX4_readLine_83 : decode cX4_readLine 83 = .ok (.iconst 1, 1) := dk_4 (dk_at dksX4_readLine_3 11 rfl rfl)
theorem dX4_readLine_84 : decode cX4_readLine 84 = .ok (.iadd, 1) := dk_96 (dk_at dksX4_readLine_3 12 rfl rfl)
theorem dX4_readLine_85 : decode cX4_readLine 85 = .ok (.iastore, 1) := dk_79 (dk_at dksX4_readLine_3 13 rfl rfl)
theorem dX4_readLine_86 : decode cX4_readLine 86 = .ok (.lload_n 1, 1) := dk_31 (dk_at dksX4_readLine_3 14 rfl rfl)
theorem dX4_readLine_87 : decode cX4_readLine 87 = .ok (.ldc2_w 193, 3) := dk_20 0 193 (dk_at dksX4_readLine_3 15 rfl rfl)
theorem dX4_readLine_90 : decode cX4_readLine 90 = .ok (.lcmp, 1) := dk_148 (dk_at dksX4_readLine_3 18 rfl rfl)
theorem dX4_readLine_91 : decode cX4_readLine 91 = .ok (.ifCond .ne 7, 3) := dk_154 0 7 (dk_at dksX4_readLine_3 19 rfl rfl)
theorem dX4_readLine_94 : decode cX4_readLine 94 = .ok (.aload_n 0, 1) := dk_42 (dk_at dksX4_readLine_3 22 rfl rfl)
theorem dX4_readLine_95 : decode cX4_readLine 95 = .ok (.invokevirtual 318, 3) := dk_182 1 62 (dk_at dksX4_readLine_4 0 rfl rfl)
theorem dX4_readLine_98 : decode cX4_readLine 98 = .ok (.lload_n 1, 1) := dk_31 (dk_at dksX4_readLine_4 3 rfl rfl)
theorem dX4_readLine_99 : decode cX4_readLine 99 = .ok (.ldc2_w 199, 3) := dk_20 0 199 (dk_at dksX4_readLine_4 4 rfl rfl)
theorem dX4_readLine_102 : decode cX4_readLine 102 = .ok (.lcmp, 1) := dk_148 (dk_at dksX4_readLine_4 7 rfl rfl)
theorem dX4_readLine_103 : decode cX4_readLine 103 = .ok (.ifCond .ne 17, 3) := dk_154 0 17 (dk_at dksX4_readLine_4 8 rfl rfl)
theorem dX4_readLine_106 : decode cX4_readLine 106 = .ok (.aload_n 0, 1) := dk_42 (dk_at dksX4_readLine_4 11 rfl rfl)
theorem dX4_readLine_107 : decode cX4_readLine 107 = .ok (.aload_n 0, 1) := dk_42 (dk_at dksX4_readLine_4 12 rfl rfl)
theorem dX4_readLine_108 : decode cX4_readLine 108 = .ok (.getfield 54, 3) := dk_180 0 54 (dk_at dksX4_readLine_4 13 rfl rfl)
theorem dX4_readLine_111 : decode cX4_readLine 111 = .ok (.aload_n 0, 1) := dk_42 (dk_at dksX4_readLine_4 16 rfl rfl)
theorem dX4_readLine_112 : decode cX4_readLine 112 = .ok (.getfield 60, 3) := dk_180 0 60 (dk_at dksX4_readLine_4 17 rfl rfl)
theorem dX4_readLine_115 : decode cX4_readLine 115 = .ok (.bipush 60, 2) := dk_16 60 (dk_at dksX4_readLine_4 20 rfl rfl)
theorem dX4_readLine_117 : decode cX4_readLine 117 = .ok (.invokevirtual 321, 3) := dk_182 1 65 (dk_at dksX4_readLine_5 0 rfl rfl)
theorem dX4_readLine_120 : decode cX4_readLine 120 = .ok (.lload_n 1, 1) := dk_31 (dk_at dksX4_readLine_5 3 rfl rfl)
theorem dX4_readLine_121 : decode cX4_readLine 121 = .ok (.ldc2_w 201, 3) := dk_20 0 201 (dk_at dksX4_readLine_5 4 rfl rfl)
theorem dX4_readLine_124 : decode cX4_readLine 124 = .ok (.lcmp, 1) := dk_148 (dk_at dksX4_readLine_5 7 rfl rfl)
theorem dX4_readLine_125 : decode cX4_readLine 125 = .ok (.ifCond .ne 17, 3) := dk_154 0 17 (dk_at dksX4_readLine_5 8 rfl rfl)
theorem dX4_readLine_128 : decode cX4_readLine 128 = .ok (.aload_n 0, 1) := dk_42 (dk_at dksX4_readLine_5 11 rfl rfl)
theorem dX4_readLine_129 : decode cX4_readLine 129 = .ok (.aload_n 0, 1) := dk_42 (dk_at dksX4_readLine_5 12 rfl rfl)
theorem dX4_readLine_130 : decode cX4_readLine 130 = .ok (.getfield 57, 3) := dk_180 0 57 (dk_at dksX4_readLine_5 13 rfl rfl)
theorem dX4_readLine_133 : decode cX4_readLine 133 = .ok (.aload_n 0, 1) := dk_42 (dk_at dksX4_readLine_5 16 rfl rfl)
theorem dX4_readLine_134 : decode cX4_readLine 134 = .ok (.getfield 63, 3) := dk_180 0 63 (dk_at dksX4_readLine_5 17 rfl rfl)
theorem dX4_readLine_137 : decode cX4_readLine 137 = .ok (.bipush 9, 2) := dk_16 9 (dk_at dksX4_readLine_5 20 rfl rfl)
theorem dX4_readLine_139 : decode cX4_readLine 139 = .ok (.invokevirtual 321, 3) := dk_182 1 65 (dk_at dksX4_readLine_6 0 rfl rfl)
theorem dX4_readLine_142 : decode cX4_readLine 142 = .ok (.lload_n 1, 1) := dk_31 (dk_at dksX4_readLine_6 3 rfl rfl)
theorem dX4_readLine_143 : decode cX4_readLine 143 = .ok (.ldc2_w 203, 3) := dk_20 0 203 (dk_at dksX4_readLine_6 4 rfl rfl)
theorem dX4_readLine_146 : decode cX4_readLine 146 = .ok (.lcmp, 1) := dk_148 (dk_at dksX4_readLine_6 7 rfl rfl)
theorem dX4_readLine_147 : decode cX4_readLine 147 = .ok (.ifCond .ne 7, 3) := dk_154 0 7 (dk_at dksX4_readLine_6 8 rfl rfl)
theorem dX4_readLine_150 : decode cX4_readLine 150 = .ok (.aload_n 0, 1) := dk_42 (dk_at dksX4_readLine_6 11 rfl rfl)
theorem dX4_readLine_151 : decode cX4_readLine 151 = .ok (.invokevirtual 325, 3) := dk_182 1 69 (dk_at dksX4_readLine_6 12 rfl rfl)
theorem dX4_readLine_154 : decode cX4_readLine 154 = .ok (.lload_n 1, 1) := dk_31 (dk_at dksX4_readLine_6 15 rfl rfl)
theorem dX4_readLine_155 : decode cX4_readLine 155 = .ok (.ldc2_w 205, 3) := dk_20 0 205 (dk_at dksX4_readLine_6 16 rfl rfl)
theorem dX4_readLine_158 : decode cX4_readLine 158 = .ok (.lcmp, 1) := dk_148 (dk_at dksX4_readLine_6 19 rfl rfl)
theorem dX4_readLine_159 : decode cX4_readLine 159 = .ok (.ifCond .ne 7, 3) := dk_154 0 7 (dk_at dksX4_readLine_6 20 rfl rfl)
theorem dX4_readLine_162 : decode cX4_readLine 162 = .ok (.aload_n 0, 1) := dk_42 (dk_at dksX4_readLine_6 23 rfl rfl)
theorem dX4_readLine_163 : decode cX4_readLine 163 = .ok (.invokevirtual 328, 3) := dk_182 1 72 (dk_at dksX4_readLine_7 0 rfl rfl)
theorem dX4_readLine_166 : decode cX4_readLine 166 = .ok (.lload_n 1, 1) := dk_31 (dk_at dksX4_readLine_7 3 rfl rfl)
theorem dX4_readLine_167 : decode cX4_readLine 167 = .ok (.ldc2_w 209, 3) := dk_20 0 209 (dk_at dksX4_readLine_7 4 rfl rfl)
theorem dX4_readLine_170 : decode cX4_readLine 170 = .ok (.lcmp, 1) := dk_148 (dk_at dksX4_readLine_7 7 rfl rfl)
theorem dX4_readLine_171 : decode cX4_readLine 171 = .ok (.ifCond .ne 44, 3) := dk_154 0 44 (dk_at dksX4_readLine_7 8 rfl rfl)
theorem dX4_readLine_174 : decode cX4_readLine 174 = .ok (.aload_n 0, 1) := dk_42 (dk_at dksX4_readLine_7 11 rfl rfl)
theorem dX4_readLine_175 : decode cX4_readLine 175 = .ok (.getfield 72, 3) := dk_180 0 72 (dk_at dksX4_readLine_7 12 rfl rfl)
theorem dX4_readLine_178 : decode cX4_readLine 178 = .ok (.iconst 5, 1) := dk_8 (dk_at dksX4_readLine_7 15 rfl rfl)
theorem dX4_readLine_179 : decode cX4_readLine 179 = .ok (.aload_n 0, 1) := dk_42 (dk_at dksX4_readLine_7 16 rfl rfl)
theorem dX4_readLine_180 : decode cX4_readLine 180 = .ok (.getfield 292, 3) := dk_180 1 36 (dk_at dksX4_readLine_7 17 rfl rfl)
theorem dX4_readLine_183 : decode cX4_readLine 183 = .ok (.imul, 1) := dk_104 (dk_at dksX4_readLine_7 20 rfl rfl)
theorem dX4_readLine_184 : decode cX4_readLine 184 = .ok (.aload_n 0, 1) := dk_42 (dk_at dksX4_readLine_7 21 rfl rfl)
theorem dX4_readLine_185 : decode cX4_readLine 185 = .ok (.getfield 27, 3) := dk_180 0 27 (dk_at dksX4_readLine_8 0 rfl rfl)
theorem dX4_readLine_188 : decode cX4_readLine 188 = .ok (.aload_n 0, 1) := dk_42 (dk_at dksX4_readLine_8 3 rfl rfl)
theorem dX4_readLine_189 : decode cX4_readLine 189 = .ok (.getfield 292, 3) := dk_180 1 36 (dk_at dksX4_readLine_8 4 rfl rfl)
theorem dX4_readLine_192 : decode cX4_readLine 192 = .ok (.iaload, 1) := dk_46 (dk_at dksX4_readLine_8 7 rfl rfl)
theorem dX4_readLine_193 : decode cX4_readLine 193 = .ok (.iadd, 1) := dk_96 (dk_at dksX4_readLine_8 8 rfl rfl)
theorem dX4_readLine_194 : decode cX4_readLine 194 = .ok (.aload_n 0, 1) := dk_42 (dk_at dksX4_readLine_8 9 rfl rfl)
theorem dX4_readLine_195 : decode cX4_readLine 195 = .ok (.iconst 0, 1) := dk_3 (dk_at dksX4_readLine_8 10 rfl rfl)
theorem dX4_readLine_196 : decode cX4_readLine 196 = .ok (.bipush 99, 2) := dk_16 99 (dk_at dksX4_readLine_8 11 rfl rfl)
theorem dX4_readLine_198 : decode cX4_readLine 198 = .ok (.invokevirtual 288, 3) := dk_182 1 32 (dk_at dksX4_readLine_8 13 rfl rfl)
theorem dX4_readLine_201 : decode cX4_readLine 201 = .ok (.iastore, 1) := dk_79 (dk_at dksX4_readLine_8 16 rfl rfl)
theorem dX4_readLine_202 : decode cX4_readLine 202 = .ok (.aload_n 0, 1) := dk_42 (dk_at dksX4_readLine_8 17 rfl rfl)
theorem dX4_readLine_203 : decode cX4_readLine 203 = .ok (.getfield 27, 3) := dk_180 0 27 (dk_at dksX4_readLine_8 18 rfl rfl)
theorem dX4_readLine_206 : decode cX4_readLine 206 = .ok (.aload_n 0, 1) := dk_42 (dk_at dksX4_readLine_8 21 rfl rfl)
theorem dX4_readLine_207 : decode cX4_readLine 207 = .ok (.getfield 292, 3) := dk_180 1 36 (dk_at dksX4_readLine_9 0 rfl rfl)
theorem dX4_readLine_210 : decode cX4_readLine 210 = .ok (.dup2, 1) := dk_92 (dk_at dksX4_readLine_9 3 rfl rfl)
theorem dX4_readLine_211 : decode cX4_readLine 211 = .ok (.iaload, 1) := dk_46 (dk_at dksX4_readLine_9 4 rfl rfl)
theorem dX4_readLine_212 : decode cX4_readLine 212 = .ok (.iconst 1, 1) := dk_4 (dk_at dksX4_readLine_9 5 rfl rfl)
theorem dX4_readLine_213 : decode cX4_readLine 213 = .ok (.iadd, 1) := dk_96 (dk_at dksX4_readLine_9 6 rfl rfl)
theorem dX4_readLine_214 : decode cX4_readLine 214 = .ok (.iastore, 1) := dk_79 (dk_at dksX4_readLine_9 7 rfl rfl)
theorem dX4_readLine_215 : decode cX4_readLine 215 = .ok (.lload_n 1, 1) := dk_31 (dk_at dksX4_readLine_9 8 rfl rfl)
theorem dX4_readLine_216 : decode cX4_readLine 216 = .ok (.ldc2_w 211, 3) := dk_20 0 211 (dk_at dksX4_readLine_9 9 rfl rfl)
theorem dX4_readLine_219 : decode cX4_readLine 219 = .ok (.lcmp, 1) := dk_148 (dk_at dksX4_readLine_9 12 rfl rfl)
theorem dX4_readLine_220 : decode cX4_readLine 220 = .ok (.ifCond .ne 18, 3) := dk_154 0 18 (dk_at dksX4_readLine_9 13 rfl rfl)
theorem dX4_readLine_223 : decode cX4_readLine 223 = .ok (.aload_n 0, 1) := dk_42 (dk_at dksX4_readLine_9 16 rfl rfl)
theorem dX4_readLine_224 : decode cX4_readLine 224 = .ok (.getfield 81, 3) := dk_180 0 81 (dk_at dksX4_readLine_9 17 rfl rfl)
theorem dX4_readLine_227 : decode cX4_readLine 227 = .ok (.aload_n 0, 1) := dk_42 (dk_at dksX4_readLine_9 20 rfl rfl)
theorem dX4_readLine_228 : decode cX4_readLine 228 = .ok (.getfield 292, 3) := dk_180 1 36 (dk_at dksX4_readLine_9 21 rfl rfl)
theorem dX4_readLine_231 : decode cX4_readLine 231 = .ok (.iconst 1, 1) := dk_4 (dk_at dksX4_readLine_10 0 rfl rfl)
theorem dX4_readLine_232 : decode cX4_readLine 232 = .ok (.bastore, 1) := dk_84 (dk_at dksX4_readLine_10 1 rfl rfl)
theorem dX4_readLine_233 : decode cX4_readLine 233 = .ok (.aload_n 0, 1) := dk_42 (dk_at dksX4_readLine_10 2 rfl rfl)
theorem dX4_readLine_234 : decode cX4_readLine 234 = .ok (.iconst 0, 1) := dk_3 (dk_at dksX4_readLine_10 3 rfl rfl)
theorem dX4_readLine_235 : decode cX4_readLine 235 = .ok (.invokevirtual 331, 3) := dk_182 1 75 (dk_at dksX4_readLine_10 4 rfl rfl)
theorem dX4_readLine_238 : decode cX4_readLine 238 = .ok (.lload_n 1, 1) := dk_31 (dk_at dksX4_readLine_10 7 rfl rfl)
theorem dX4_readLine_239 : decode cX4_readLine 239 = .ok (.ldc2_w 213, 3) := dk_20 0 213 (dk_at dksX4_readLine_10 8 rfl rfl)
theorem dX4_readLine_242 : decode cX4_readLine 242 = .ok (.lcmp, 1) := dk_148 (dk_at dksX4_readLine_10 11 rfl rfl)
theorem dX4_readLine_243 : decode cX4_readLine 243 = .ok (.ifCond .ne 29, 3) := dk_154 0 29 (dk_at dksX4_readLine_10 12 rfl rfl)
theorem dX4_readLine_246 : decode cX4_readLine 246 = .ok (.aload_n 0, 1) := dk_42 (dk_at dksX4_readLine_10 15 rfl rfl)
theorem dX4_readLine_247 : decode cX4_readLine 247 = .ok (.getfield 85, 3) := dk_180 0 85 (dk_at dksX4_readLine_10 16 rfl rfl)
theorem dX4_readLine_250 : decode cX4_readLine 250 = .ok (.aload_n 0, 1) := dk_42 (dk_at dksX4_readLine_10 19 rfl rfl)
theorem dX4_readLine_251 : decode cX4_readLine 251 = .ok (.getfield 292, 3) := dk_180 1 36 (dk_at dksX4_readLine_10 20 rfl rfl)
theorem dX4_readLine_254 : decode cX4_readLine 254 = .ok (.iconst 1, 1) := dk_4 (dk_at dksX4_readLine_10 23 rfl rfl)
theorem dX4_readLine_255 : decode cX4_readLine 255 = .ok (.bastore, 1) := dk_84 (dk_at dksX4_readLine_11 0 rfl rfl)
theorem dX4_readLine_256 : decode cX4_readLine 256 = .ok (.aload_n 0, 1) := dk_42 (dk_at dksX4_readLine_11 1 rfl rfl)
theorem dX4_readLine_257 : decode cX4_readLine 257 = .ok (.getfield 36, 3) := dk_180 0 36 (dk_at dksX4_readLine_11 2 rfl rfl)
theorem dX4_readLine_260 : decode cX4_readLine 260 = .ok (.aload_n 0, 1) := dk_42 (dk_at dksX4_readLine_11 5 rfl rfl)
theorem dX4_readLine_261 : decode cX4_readLine 261 = .ok (.getfield 292, 3) := dk_180 1 36 (dk_at dksX4_readLine_11 6 rfl rfl)
theorem dX4_readLine_264 : decode cX4_readLine 264 = .ok (.aload_n 0, 1) := dk_42 (dk_at dksX4_readLine_11 9 rfl rfl)
theorem dX4_readLine_265 : decode cX4_readLine 265 = .ok (.iconst 1, 1) := dk_4 (dk_at dksX4_readLine_11 10 rfl rfl)
theorem dX4_readLine_266 : decode cX4_readLine 266 = .ok (.bipush 8, 2) := dk_16 8 (dk_at dksX4_readLine_11 11 rfl rfl)
theorem dX4_readLine_268 : decode cX4_readLine 268 = .ok (.invokevirtual 288, 3) := dk_182 1 32 (dk_at dksX4_readLine_11 13 rfl rfl)
theorem dX4_readLine_271 : decode cX4_readLine 271 = .ok (.iastore, 1) := dk_79 (dk_at dksX4_readLine_11 16 rfl rfl)
theorem dX4_readLine_272 : decode cX4_readLine 272 = .ok (.lload_n 1, 1) := dk_31 (dk_at dksX4_readLine_11 17 rfl rfl)
theorem dX4_readLine_273 : decode cX4_readLine 273 = .ok (.ldc2_w 215, 3) := dk_20 0 215 (dk_at dksX4_readLine_11 18 rfl rfl)
theorem dX4_readLine_276 : decode cX4_readLine 276 = .ok (.lcmp, 1) := dk_148 (dk_at dksX4_readLine_11 21 rfl rfl)
theorem dX4_readLine_277 : decode cX4_readLine 277 = .ok (.ifCond .ne 30, 3) := dk_154 0 30 (dk_at dksX4_readLine_12 0 rfl rfl)
theorem dX4_readLine_280 : decode cX4_readLine 280 = .ok (.aload_n 0, 1) := dk_42 (dk_at dksX4_readLine_12 3 rfl rfl)
theorem dX4_readLine_281 : decode cX4_readLine 281 = .ok (.getfield 88, 3) := dk_180 0 88 (dk_at dksX4_readLine_12 4 rfl rfl)
theorem dX4_readLine_284 : decode cX4_readLine 284 = .ok (.aload_n 0, 1) := dk_42 (dk_at dksX4_readLine_12 7 rfl rfl)
theorem dX4_readLine_285 : decode cX4_readLine 285 = .ok (.getfield 292, 3) := dk_180 1 36 (dk_at dksX4_readLine_12 8 rfl rfl)
theorem dX4_readLine_288 : decode cX4_readLine 288 = .ok (.iconst 1, 1) := dk_4 (dk_at dksX4_readLine_12 11 rfl rfl)
theorem dX4_readLine_289 : decode cX4_readLine 289 = .ok (.bastore, 1) := dk_84 (dk_at dksX4_readLine_12 12 rfl rfl)
theorem dX4_readLine_290 : decode cX4_readLine 290 = .ok (.aload_n 0, 1) := dk_42 (dk_at dksX4_readLine_12 13 rfl rfl)
theorem dX4_readLine_291 : decode cX4_readLine 291 = .ok (.getfield 39, 3) := dk_180 0 39 (dk_at dksX4_readLine_12 14 rfl rfl)
theorem dX4_readLine_294 : decode cX4_readLine 294 = .ok (.aload_n 0, 1) := dk_42 (dk_at dksX4_readLine_12 17 rfl rfl)
theorem dX4_readLine_295 : decode cX4_readLine 295 = .ok (.getfield 292, 3) := dk_180 1 36 (dk_at dksX4_readLine_12 18 rfl rfl)
theorem dX4_readLine_298 : decode cX4_readLine 298 = .ok (.aload_n 0, 1) := dk_42 (dk_at dksX4_readLine_12 21 rfl rfl)
theorem dX4_readLine_299 : decode cX4_readLine 299 = .ok (.iconst 0, 1) := dk_3 (dk_at dksX4_readLine_12 22 rfl rfl)
theorem dX4_readLine_300 : decode cX4_readLine 300 = .ok (.sipush 999, 3) := dk_17 3 231 (dk_at dksX4_readLine_13 0 rfl rfl)
theorem dX4_readLine_303 : decode cX4_readLine 303 = .ok (.invokevirtual 288, 3) := dk_182 1 32 (dk_at dksX4_readLine_13 3 rfl rfl)
theorem dX4_readLine_306 : decode cX4_readLine 306 = .ok (.iastore, 1) := dk_79 (dk_at dksX4_readLine_13 6 rfl rfl)
theorem dX4_readLine_307 : decode cX4_readLine 307 = .ok (.aload_n 0, 1) := dk_42 (dk_at dksX4_readLine_13 7 rfl rfl)
theorem dX4_readLine_308 : decode cX4_readLine 308 = .ok (.aload_n 0, 1) := dk_42 (dk_at dksX4_readLine_13 8 rfl rfl)
theorem dX4_readLine_309 : decode cX4_readLine 309 = .ok (.bipush 59, 2) := dk_16 59 (dk_at dksX4_readLine_13 9 rfl rfl)
theorem dX4_readLine_311 : decode cX4_readLine 311 = .ok (.invokevirtual 335, 3) := dk_182 1 79 (dk_at dksX4_readLine_13 11 rfl rfl)
theorem dX4_readLine_314 : decode cX4_readLine 314 = .ok (.invokevirtual 284, 3) := dk_182 1 28 (dk_at dksX4_readLine_13 14 rfl rfl)
theorem dX4_readLine_317 : decode cX4_readLine 317 = .ok (.return_, 1) := dk_177 (dk_at dksX4_readLine_13 17 rfl rfl)
abbrev cX4_isFull : ByteArray := prog_22_method_18_code
def yX4_isFull : MethodName := ⟨RX4, "isFull", "()Z"⟩
def dkwX4_isFull_8 : List UInt8 := [167, 0, 4, 3, 172]
abbrev dktX4_isFull_8 : List UInt8 := dkwX4_isFull_8 ++ []
def dkwX4_isFull_7 : List UInt8 := [154, 0, 27, 42, 20, 0, 203, 182, 1, 25, 154, 0, 17, 42, 20, 0, 205, 182, 1, 25, 154, 0, 7, 4]
abbrev dktX4_isFull_7 : List UInt8 := dkwX4_isFull_7 ++ dktX4_isFull_8
def dkwX4_isFull_6 : List UInt8 := [180, 1, 36, 51, 172, 42, 20, 0, 199, 182, 1, 25, 154, 0, 37, 42, 20, 0, 201, 182, 1, 25]
abbrev dktX4_isFull_6 : List UInt8 := dkwX4_isFull_6 ++ dktX4_isFull_7
def dkwX4_isFull_5 : List UInt8 := [180, 0, 85, 42, 180, 1, 36, 51, 172, 42, 20, 0, 215, 182, 1, 25, 153, 0, 13, 42, 180, 0, 88, 42]
abbrev dktX4_isFull_5 : List UInt8 := dkwX4_isFull_5 ++ dktX4_isFull_6
def dkwX4_isFull_4 : List UInt8 := [153, 0, 13, 42, 180, 0, 81, 42, 180, 1, 36, 51, 172, 42, 20, 0, 213, 182, 1, 25, 153, 0, 13, 42]
abbrev dktX4_isFull_4 : List UInt8 := dkwX4_isFull_4 ++ dktX4_isFull_5
def dkwX4_isFull_3 : List UInt8 := [42, 180, 1, 36, 46, 8, 160, 0, 7, 4, 167, 0, 4, 3, 172, 42, 20, 0, 211, 182, 1, 25]
abbrev dktX4_isFull_3 : List UInt8 := dkwX4_isFull_3 ++ dktX4_isFull_4
def dkwX4_isFull_2 : List UInt8 := [8, 160, 0, 7, 4, 167, 0, 4, 3, 172, 42, 20, 0, 209, 182, 1, 25, 153, 0, 22, 42, 180, 0, 27]
abbrev dktX4_isFull_2 : List UInt8 := dkwX4_isFull_2 ++ dktX4_isFull_3
def dkwX4_isFull_1 : List UInt8 := [167, 0, 4, 3, 172, 42, 20, 0, 193, 182, 1, 25, 153, 0, 22, 42, 180, 0, 24, 42, 180, 1, 36, 46]
abbrev dktX4_isFull_1 : List UInt8 := dkwX4_isFull_1 ++ dktX4_isFull_2
def dkwX4_isFull_0 : List UInt8 := [42, 20, 0, 191, 182, 1, 25, 153, 0, 22, 42, 180, 0, 20, 42, 180, 1, 36, 46, 6, 160, 0, 7, 4]
abbrev dktX4_isFull_0 : List UInt8 := dkwX4_isFull_0 ++ dktX4_isFull_1
theorem dksX4_isFull_0 : cX4_isFull.data.toList.drop 0 = dktX4_isFull_0 := by decide +kernel
theorem dksX4_isFull_1 : cX4_isFull.data.toList.drop 24 = dktX4_isFull_1 := dk_seg dksX4_isFull_0 24 rfl rfl
theorem dksX4_isFull_2 : cX4_isFull.data.toList.drop 48 = dktX4_isFull_2 := dk_seg dksX4_isFull_1 24 rfl rfl
theorem dksX4_isFull_3 : cX4_isFull.data.toList.drop 72 = dktX4_isFull_3 := dk_seg dksX4_isFull_2 24 rfl rfl
theorem dksX4_isFull_4 : cX4_isFull.data.toList.drop 94 = dktX4_isFull_4 := dk_seg dksX4_isFull_3 22 rfl rfl
theorem dksX4_isFull_5 : cX4_isFull.data.toList.drop 118 = dktX4_isFull_5 := dk_seg dksX4_isFull_4 24 rfl rfl
theorem dksX4_isFull_6 : cX4_isFull.data.toList.drop 142 = dktX4_isFull_6 := dk_seg dksX4_isFull_5 24 rfl rfl
theorem dksX4_isFull_7 : cX4_isFull.data.toList.drop 164 = dktX4_isFull_7 := dk_seg dksX4_isFull_6 22 rfl rfl
theorem dksX4_isFull_8 : cX4_isFull.data.toList.drop 188 = dktX4_isFull_8 := dk_seg dksX4_isFull_7 24 rfl rfl
theorem dX4_isFull_0 : decode cX4_isFull 0 = .ok (.aload_n 0, 1) := dk_42 (dk_at dksX4_isFull_0 0 rfl rfl)
theorem dX4_isFull_1 : decode cX4_isFull 1 = .ok (.ldc2_w 191, 3) := dk_20 0 191 (dk_at dksX4_isFull_0 1 rfl rfl)
theorem dX4_isFull_4 : decode cX4_isFull 4 = .ok (.invokevirtual 281, 3) := dk_182 1 25 (dk_at dksX4_isFull_0 4 rfl rfl)
theorem dX4_isFull_7 : decode cX4_isFull 7 = .ok (.ifCond .eq 22, 3) := dk_153 0 22 (dk_at dksX4_isFull_0 7 rfl rfl)
theorem dX4_isFull_10 : decode cX4_isFull 10 = .ok (.aload_n 0, 1) := dk_42 (dk_at dksX4_isFull_0 10 rfl rfl)
theorem dX4_isFull_11 : decode cX4_isFull 11 = .ok (.getfield 20, 3) := dk_180 0 20 (dk_at dksX4_isFull_0 11 rfl rfl)
theorem dX4_isFull_14 : decode cX4_isFull 14 = .ok (.aload_n 0, 1) := dk_42 (dk_at dksX4_isFull_0 14 rfl rfl)
theorem dX4_isFull_15 : decode cX4_isFull 15 = .ok (.getfield 292, 3) := dk_180 1 36 (dk_at dksX4_isFull_0 15 rfl rfl)
theorem dX4_isFull_18 : decode cX4_isFull 18 = .ok (.iaload, 1) := dk_46 (dk_at dksX4_isFull_0 18 rfl rfl)
theorem dX4_isFull_19 : decode cX4_isFull 19 = .ok (.iconst 3, 1) := dk_6 (dk_at dksX4_isFull_0 19 rfl rfl)
theorem dX4_isFull_20 : decode cX4_isFull 20 = .ok (.if_icmp .ne 7, 3) := dk_160 0 7 (dk_at dksX4_isFull_0 20 rfl rfl)
theorem dX4_isFull_23 : decode cX4_isFull 23 = .ok (.iconst 1, 1) := dk_4 (dk_at dksX4_isFull_0 23 rfl rfl)
theorem dX4_isFull_24 : decode cX4_isFull 24 = .ok (.goto 4, 3) := dk_167 0 4 (dk_at dksX4_isFull_1 0 rfl rfl)
theorem dX4_isFull_27 : decode cX4_isFull 27 = .ok (.iconst 0, 1) := dk_3 (dk_at dksX4_isFull_1 3 rfl rfl)
theorem dX4_isFull_28 : decode cX4_isFull 28 = .ok (.ireturn, 1) := dk_172 (dk_at dksX4_isFull_1 4 rfl rfl)
theorem dX4_isFull_29 : decode cX4_isFull 29 = .ok (.aload_n 0, 1) := dk_42 (dk_at dksX4_isFull_1 5 rfl rfl)
theorem dX4_isFull_30 : decode cX4_isFull 30 = .ok (.ldc2_w 193, 3) := dk_20 0 193 (dk_at dksX4_isFull_1 6 rfl rfl)
theorem dX4_isFull_33 : decode cX4_isFull 33 = .ok (.invokevirtual 281, 3) := dk_182 1 25 (dk_at dksX4_isFull_1 9 rfl rfl)
theorem dX4_isFull_36 : decode cX4_isFull 36 = .ok (.ifCond .eq 22, 3) := dk_153 0 22 (dk_at dksX4_isFull_1 12 rfl rfl)
theorem dX4_isFull_39 : decode cX4_isFull 39 = .ok (.aload_n 0, 1) := dk_42 (dk_at dksX4_isFull_1 15 rfl rfl)
theorem dX4_isFull_40 : decode cX4_isFull 40 = .ok (.getfield 24, 3) := dk_180 0 24 (dk_at dksX4_isFull_1 16 rfl rfl)
theorem dX4_isFull_43 : decode cX4_isFull 43 = .ok (.aload_n 0, 1) := dk_42 (dk_at dksX4_isFull_1 19 rfl rfl)
theorem dX4_isFull_44 : decode cX4_isFull 44 = .ok (.getfield 292, 3) := dk_180 1 36 (dk_at dksX4_isFull_1 20 rfl rfl)
theorem dX4_isFull_47 : decode cX4_isFull 47 = .ok (.iaload, 1) := dk_46 (dk_at dksX4_isFull_1 23 rfl rfl)
theorem dX4_isFull_48 : decode cX4_isFull 48 = .ok (.iconst 5, 1) := dk_8 (dk_at dksX4_isFull_2 0 rfl rfl)
theorem dX4_isFull_49 : decode cX4_isFull 49 = .ok (.if_icmp .ne 7, 3) := dk_160 0 7 (dk_at dksX4_isFull_2 1 rfl rfl)
theorem dX4_isFull_52 : decode cX4_isFull 52 = .ok (.iconst 1, 1) := dk_4 (dk_at dksX4_isFull_2 4 rfl rfl)
theorem dX4_isFull_53 : decode cX4_isFull 53 = .ok (.goto 4, 3) := dk_167 0 4 (dk_at dksX4_isFull_2 5 rfl rfl)
theorem dX4_isFull_56 : decode cX4_isFull 56 = .ok (.iconst 0, 1) := dk_3 (dk_at dksX4_isFull_2 8 rfl rfl)
theorem dX4_isFull_57 : decode cX4_isFull 57 = .ok (.ireturn, 1) := dk_172 (dk_at dksX4_isFull_2 9 rfl rfl)
theorem dX4_isFull_58 : decode cX4_isFull 58 = .ok (.aload_n 0, 1) := dk_42 (dk_at dksX4_isFull_2 10 rfl rfl)
theorem dX4_isFull_59 : decode cX4_isFull 59 = .ok (.ldc2_w 209, 3) := dk_20 0 209 (dk_at dksX4_isFull_2 11 rfl rfl)
theorem dX4_isFull_62 : decode cX4_isFull 62 = .ok (.invokevirtual 281, 3) := dk_182 1 25 (dk_at dksX4_isFull_2 14 rfl rfl)
theorem dX4_isFull_65 : decode cX4_isFull 65 = .ok (.ifCond .eq 22, 3) := dk_153 0 22 (dk_at dksX4_isFull_2 17 rfl rfl)
theorem dX4_isFull_68 : decode cX4_isFull 68 = .ok (.aload_n 0, 1) := dk_42 (dk_at dksX4_isFull_2 20 rfl rfl)
theorem dX4_isFull_69 : decode cX4_isFull 69 = .ok (.getfield 27, 3) := dk_180 0 27 (dk_at dksX4_isFull_2 21 rfl rfl)
theorem dX4_isFull_72 : decode cX4_isFull 72 = .ok (.aload_n 0, 1) := dk_42 (dk_at dksX4_isFull_3 0 rfl rfl)
theorem dX4_isFull_73 : decode cX4_isFull 73 = .ok (.getfield 292, 3) := dk_180 1 36 (dk_at dksX4_isFull_3 1 rfl rfl)
theorem dX4_isFull_76 : decode cX4_isFull 76 = .ok (.iaload, 1) := dk_46 (dk_at dksX4_isFull_3 4 rfl rfl)
theorem dX4_isFull_77 : decode cX4_isFull 77 = .ok (.iconst 5, 1) := dk_8 (dk_at dksX4_isFull_3 5 rfl rfl)
theorem dX4_isFull_78 : decode cX4_isFull 78 = .ok (.if_icmp .ne 7, 3) := dk_160 0 7 (dk_at dksX4_isFull_3 6 rfl rfl)
theorem dX4_isFull_81 : decode cX4_isFull 81 = .ok (.iconst 1, 1) := dk_4 (dk_at dksX4_isFull_3 9 rfl rfl)
theorem dX4_isFull_82 : decode cX4_isFull 82 = .ok (.goto 4, 3) := dk_167 0 4 (dk_at dksX4_isFull_3 10 rfl rfl)
theorem dX4_isFull_85 : decode cX4_isFull 85 = .ok (.iconst 0, 1) := dk_3 (dk_at dksX4_isFull_3 13 rfl rfl)
theorem dX4_isFull_86 : decode cX4_isFull 86 = .ok (.ireturn, 1) := dk_172 (dk_at dksX4_isFull_3 14 rfl rfl)
theorem dX4_isFull_87 : decode cX4_isFull 87 = .ok (.aload_n 0, 1) := dk_42 (dk_at dksX4_isFull_3 15 rfl rfl)
theorem dX4_isFull_88 : decode cX4_isFull 88 = .ok (.ldc2_w 211, 3) := dk_20 0 211 (dk_at dksX4_isFull_3 16 rfl rfl)
theorem dX4_isFull_91 : decode cX4_isFull 91 = .ok (.invokevirtual 281, 3) := dk_182 1 25 (dk_at dksX4_isFull_3 19 rfl rfl)
theorem dX4_isFull_94 : decode cX4_isFull 94 = .ok (.ifCond .eq 13, 3) := dk_153 0 13 (dk_at dksX4_isFull_4 0 rfl rfl)
theorem dX4_isFull_97 : decode cX4_isFull 97 = .ok (.aload_n 0, 1) := dk_42 (dk_at dksX4_isFull_4 3 rfl rfl)
theorem dX4_isFull_98 : decode cX4_isFull 98 = .ok (.getfield 81, 3) := dk_180 0 81 (dk_at dksX4_isFull_4 4 rfl rfl)
theorem dX4_isFull_101 : decode cX4_isFull 101 = .ok (.aload_n 0, 1) := dk_42 (dk_at dksX4_isFull_4 7 rfl rfl)
theorem dX4_isFull_102 : decode cX4_isFull 102 = .ok (.getfield 292, 3) := dk_180 1 36 (dk_at dksX4_isFull_4 8 rfl rfl)
theorem dX4_isFull_105 : decode cX4_isFull 105 = .ok (.baload, 1) := dk_51 (dk_at dksX4_isFull_4 11 rfl rfl)
theorem dX4_isFull_106 : decode cX4_isFull 106 = .ok (.ireturn, 1) := dk_172 (dk_at dksX4_isFull_4 12 rfl rfl)
theorem dX4_isFull_107 : decode cX4_isFull 107 = .ok (.aload_n 0, 1) := dk_42 (dk_at dksX4_isFull_4 13 rfl rfl)
theorem dX4_isFull_108 : decode cX4_isFull 108 = .ok (.ldc2_w 213, 3) := dk_20 0 213 (dk_at dksX4_isFull_4 14 rfl rfl)
theorem dX4_isFull_111 : decode cX4_isFull 111 = .ok (.invokevirtual 281, 3) := dk_182 1 25 (dk_at dksX4_isFull_4 17 rfl rfl)
theorem dX4_isFull_114 : decode cX4_isFull 114 = .ok (.ifCond .eq 13, 3) := dk_153 0 13 (dk_at dksX4_isFull_4 20 rfl rfl)
theorem dX4_isFull_117 : decode cX4_isFull 117 = .ok (.aload_n 0, 1) := dk_42 (dk_at dksX4_isFull_4 23 rfl rfl)
theorem dX4_isFull_118 : decode cX4_isFull 118 = .ok (.getfield 85, 3) := dk_180 0 85 (dk_at dksX4_isFull_5 0 rfl rfl)
theorem dX4_isFull_121 : decode cX4_isFull 121 = .ok (.aload_n 0, 1) := dk_42 (dk_at dksX4_isFull_5 3 rfl rfl)
theorem dX4_isFull_122 : decode cX4_isFull 122 = .ok (.getfield 292, 3) := dk_180 1 36 (dk_at dksX4_isFull_5 4 rfl rfl)
theorem dX4_isFull_125 : decode cX4_isFull 125 = .ok (.baload, 1) := dk_51 (dk_at dksX4_isFull_5 7 rfl rfl)
theorem dX4_isFull_126 : decode cX4_isFull 126 = .ok (.ireturn, 1) := dk_172 (dk_at dksX4_isFull_5 8 rfl rfl)
theorem dX4_isFull_127 : decode cX4_isFull 127 = .ok (.aload_n 0, 1) := dk_42 (dk_at dksX4_isFull_5 9 rfl rfl)
theorem dX4_isFull_128 : decode cX4_isFull 128 = .ok (.ldc2_w 215, 3) := dk_20 0 215 (dk_at dksX4_isFull_5 10 rfl rfl)
theorem dX4_isFull_131 : decode cX4_isFull 131 = .ok (.invokevirtual 281, 3) := dk_182 1 25 (dk_at dksX4_isFull_5 13 rfl rfl)
theorem dX4_isFull_134 : decode cX4_isFull 134 = .ok (.ifCond .eq 13, 3) := dk_153 0 13 (dk_at dksX4_isFull_5 16 rfl rfl)
theorem dX4_isFull_137 : decode cX4_isFull 137 = .ok (.aload_n 0, 1) := dk_42 (dk_at dksX4_isFull_5 19 rfl rfl)
theorem dX4_isFull_138 : decode cX4_isFull 138 = .ok (.getfield 88, 3) := dk_180 0 88 (dk_at dksX4_isFull_5 20 rfl rfl)
theorem dX4_isFull_141 : decode cX4_isFull 141 = .ok (.aload_n 0, 1) := dk_42 (dk_at dksX4_isFull_5 23 rfl rfl)
theorem dX4_isFull_142 : decode cX4_isFull 142 = .ok (.getfield 292, 3) := dk_180 1 36 (dk_at dksX4_isFull_6 0 rfl rfl)
theorem dX4_isFull_145 : decode cX4_isFull 145 = .ok (.baload, 1) := dk_51 (dk_at dksX4_isFull_6 3 rfl rfl)
theorem dX4_isFull_146 : decode cX4_isFull 146 = .ok (.ireturn, 1) := dk_172 (dk_at dksX4_isFull_6 4 rfl rfl)
theorem dX4_isFull_147 : decode cX4_isFull 147 = .ok (.aload_n 0, 1) := dk_42 (dk_at dksX4_isFull_6 5 rfl rfl)
theorem dX4_isFull_148 : decode cX4_isFull 148 = .ok (.ldc2_w 199, 3) := dk_20 0 199 (dk_at dksX4_isFull_6 6 rfl rfl)
theorem dX4_isFull_151 : decode cX4_isFull 151 = .ok (.invokevirtual 281, 3) := dk_182 1 25 (dk_at dksX4_isFull_6 9 rfl rfl)
theorem dX4_isFull_154 : decode cX4_isFull 154 = .ok (.ifCond .ne 37, 3) := dk_154 0 37 (dk_at dksX4_isFull_6 12 rfl rfl)
theorem dX4_isFull_157 : decode cX4_isFull 157 = .ok (.aload_n 0, 1) := dk_42 (dk_at dksX4_isFull_6 15 rfl rfl)
theorem dX4_isFull_158 : decode cX4_isFull 158 = .ok (.ldc2_w 201, 3) := dk_20 0 201 (dk_at dksX4_isFull_6 16 rfl rfl)
theorem dX4_isFull_161 : decode cX4_isFull 161 = .ok (.invokevirtual 281, 3) := dk_182 1 25 (dk_at dksX4_isFull_6 19 rfl rfl)
theorem dX4_isFull_164 : decode cX4_isFull 164 = .ok (.ifCond .ne 27, 3) := dk_154 0 27 (dk_at dksX4_isFull_7 0 rfl rfl)
theorem dX4_isFull_167 : decode cX4_isFull 167 = .ok (.aload_n 0, 1) := dk_42 (dk_at dksX4_isFull_7 3 rfl rfl)
theorem dX4_isFull_168 : decode cX4_isFull 168 = .ok (.ldc2_w 203, 3) := dk_20 0 203 (dk_at dksX4_isFull_7 4 rfl rfl)
theorem dX4_isFull_171 : decode cX4_isFull 171 = .ok (.invokevirtual 281, 3) := dk_182 1 25 (dk_at dksX4_isFull_7 7 rfl rfl)
theorem dX4_isFull_174 : decode cX4_isFull 174 = .ok (.ifCond .ne 17, 3) := dk_154 0 17 (dk_at dksX4_isFull_7 10 rfl rfl)
theorem dX4_isFull_177 : decode cX4_isFull 177 = .ok (.aload_n 0, 1) := dk_42 (dk_at dksX4_isFull_7 13 rfl rfl)
theorem dX4_isFull_178 : decode cX4_isFull 178 = .ok (.ldc2_w 205, 3) := dk_20 0 205 (dk_at dksX4_isFull_7 14 rfl rfl)
theorem dX4_isFull_181 : decode cX4_isFull 181 = .ok (.invokevirtual 281, 3) := dk_182 1 25 (dk_at dksX4_isFull_7 17 rfl rfl)
theorem dX4_isFull_184 : decode cX4_isFull 184 = .ok (.ifCond .ne 7, 3) := dk_154 0 7 (dk_at dksX4_isFull_7 20 rfl rfl)
theorem dX4_isFull_187 : decode cX4_isFull 187 = .ok (.iconst 1, 1) := dk_4 (dk_at dksX4_isFull_7 23 rfl rfl)
theorem dX4_isFull_188 : decode cX4_isFull 188 = .ok (.goto 4, 3) := dk_167 0 4 (dk_at dksX4_isFull_8 0 rfl rfl)
theorem dX4_isFull_191 : decode cX4_isFull 191 = .ok (.iconst 0, 1) := dk_3 (dk_at dksX4_isFull_8 3 rfl rfl)
theorem dX4_isFull_192 : decode cX4_isFull 192 = .ok (.ireturn, 1) := dk_172 (dk_at dksX4_isFull_8 4 rfl rfl)
abbrev cX4_isWord : ByteArray := prog_22_method_11_code
def yX4_isWord : MethodName := ⟨RX4, "isWord", "(J)Z"⟩
def dkwX4_isWord_0 : List UInt8 := [42, 180, 0, 243, 6, 160, 0, 16, 42, 180, 0, 250, 31, 148, 154, 0, 7, 4, 167, 0, 4, 3, 172]
abbrev dktX4_isWord_0 : List UInt8 := dkwX4_isWord_0 ++ []
theorem dksX4_isWord_0 : cX4_isWord.data.toList.drop 0 = dktX4_isWord_0 := by decide +kernel
theorem dX4_isWord_0 : decode cX4_isWord 0 = .ok (.aload_n 0, 1) := dk_42 (dk_at dksX4_isWord_0 0 rfl rfl)
theorem dX4_isWord_1 : decode cX4_isWord 1 = .ok (.getfield 243, 3) := dk_180 0 243 (dk_at dksX4_isWord_0 1 rfl rfl)
theorem dX4_isWord_4 : decode cX4_isWord 4 = .ok (.iconst 3, 1) := dk_6 (dk_at dksX4_isWord_0 4 rfl rfl)
theorem dX4_isWord_5 : decode cX4_isWord 5 = .ok (.if_icmp .ne 16, 3) := dk_160 0 16 (dk_at dksX4_isWord_0 5 rfl rfl)
theorem dX4_isWord_8 : decode cX4_isWord 8 = .ok (.aload_n 0, 1) := dk_42 (dk_at dksX4_isWord_0 8 rfl rfl)
theorem dX4_isWord_9 : decode cX4_isWord 9 = .ok (.getfield 250, 3) := dk_180 0 250 (dk_at dksX4_isWord_0 9 rfl rfl)
theorem dX4_isWord_12 : decode cX4_isWord 12 = .ok (.lload_n 1, 1) := dk_31 (dk_at dksX4_isWord_0 12 rfl rfl)
theorem dX4_isWord_13 : decode cX4_isWord 13 = .ok (.lcmp, 1) := dk_148 (dk_at dksX4_isWord_0 13 rfl rfl)
theorem dX4_isWord_14 : decode cX4_isWord 14 = .ok (.ifCond .ne 7, 3) := dk_154 0 7 (dk_at dksX4_isWord_0 14 rfl rfl)
theorem dX4_isWord_17 : decode cX4_isWord 17 = .ok (.iconst 1, 1) := dk_4 (dk_at dksX4_isWord_0 17 rfl rfl)
theorem dX4_isWord_18 : decode cX4_isWord 18 = .ok (.goto 4, 3) := dk_167 0 4 (dk_at dksX4_isWord_0 18 rfl rfl)
theorem dX4_isWord_21 : decode cX4_isWord 21 = .ok (.iconst 0, 1) := dk_3 (dk_at dksX4_isWord_0 21 rfl rfl)
theorem dX4_isWord_22 : decode cX4_isWord 22 = .ok (.ireturn, 1) := dk_172 (dk_at dksX4_isWord_0 22 rfl rfl)
abbrev cX4_misplaced : ByteArray := prog_22_method_12_code
def yX4_misplaced : MethodName := ⟨RX4, "misplaced", "()V"⟩
def dkwX4_misplaced_0 : List UInt8 := [42, 42, 180, 0, 243, 4, 160, 0, 7, 4, 167, 0, 4, 5, 42, 180, 0, 236, 182, 1, 11, 177]
abbrev dktX4_misplaced_0 : List UInt8 := dkwX4_misplaced_0 ++ []
theorem dksX4_misplaced_0 : cX4_misplaced.data.toList.drop 0 = dktX4_misplaced_0 := by decide +kernel
theorem dX4_misplaced_0 : decode cX4_misplaced 0 = .ok (.aload_n 0, 1) := dk_42 (dk_at dksX4_misplaced_0 0 rfl rfl)
theorem dX4_misplaced_1 : decode cX4_misplaced 1 = .ok (.aload_n 0, 1) := dk_42 (dk_at dksX4_misplaced_0 1 rfl rfl)
theorem dX4_misplaced_2 : decode cX4_misplaced 2 = .ok (.getfield 243, 3) := dk_180 0 243 (dk_at dksX4_misplaced_0 2 rfl rfl)
theorem dX4_misplaced_5 : decode cX4_misplaced 5 = .ok (.iconst 1, 1) := dk_4 (dk_at dksX4_misplaced_0 5 rfl rfl)
theorem dX4_misplaced_6 : decode cX4_misplaced 6 = .ok (.if_icmp .ne 7, 3) := dk_160 0 7 (dk_at dksX4_misplaced_0 6 rfl rfl)
theorem dX4_misplaced_9 : decode cX4_misplaced 9 = .ok (.iconst 1, 1) := dk_4 (dk_at dksX4_misplaced_0 9 rfl rfl)
theorem dX4_misplaced_10 : decode cX4_misplaced 10 = .ok (.goto 4, 3) := dk_167 0 4 (dk_at dksX4_misplaced_0 10 rfl rfl)
theorem dX4_misplaced_13 : decode cX4_misplaced 13 = .ok (.iconst 2, 1) := dk_5 (dk_at dksX4_misplaced_0 13 rfl rfl)
theorem dX4_misplaced_14 : decode cX4_misplaced 14 = .ok (.aload_n 0, 1) := dk_42 (dk_at dksX4_misplaced_0 14 rfl rfl)
theorem dX4_misplaced_15 : decode cX4_misplaced 15 = .ok (.getfield 236, 3) := dk_180 0 236 (dk_at dksX4_misplaced_0 15 rfl rfl)
theorem dX4_misplaced_18 : decode cX4_misplaced 18 = .ok (.invokevirtual 267, 3) := dk_182 1 11 (dk_at dksX4_misplaced_0 18 rfl rfl)
theorem dX4_misplaced_21 : decode cX4_misplaced 21 = .ok (.return_, 1) := dk_177 (dk_at dksX4_misplaced_0 21 rfl rfl)
abbrev cX4_fails : ByteArray := prog_22_method_5_code
def yX4_fails : MethodName := ⟨RX4, "fails", "(II)V"⟩
def dkwX4_fails_0 : List UInt8 := [42, 180, 0, 188, 158, 0, 4, 177, 42, 27, 181, 0, 188, 42, 28, 181, 0, 16, 177]
abbrev dktX4_fails_0 : List UInt8 := dkwX4_fails_0 ++ []
theorem dksX4_fails_0 : cX4_fails.data.toList.drop 0 = dktX4_fails_0 := by decide +kernel
theorem dX4_fails_0 : decode cX4_fails 0 = .ok (.aload_n 0, 1) := dk_42 (dk_at dksX4_fails_0 0 rfl rfl)
theorem dX4_fails_1 : decode cX4_fails 1 = .ok (.getfield 188, 3) := dk_180 0 188 (dk_at dksX4_fails_0 1 rfl rfl)
theorem dX4_fails_4 : decode cX4_fails 4 = .ok (.ifCond .le 4, 3) := dk_158 0 4 (dk_at dksX4_fails_0 4 rfl rfl)
theorem dX4_fails_7 : decode cX4_fails 7 = .ok (.return_, 1) := dk_177 (dk_at dksX4_fails_0 7 rfl rfl)
theorem dX4_fails_8 : decode cX4_fails 8 = .ok (.aload_n 0, 1) := dk_42 (dk_at dksX4_fails_0 8 rfl rfl)
theorem dX4_fails_9 : decode cX4_fails 9 = .ok (.iload_n 1, 1) := dk_27 (dk_at dksX4_fails_0 9 rfl rfl)
theorem dX4_fails_10 : decode cX4_fails 10 = .ok (.putfield 188, 3) := dk_181 0 188 (dk_at dksX4_fails_0 10 rfl rfl)
theorem dX4_fails_13 : decode cX4_fails 13 = .ok (.aload_n 0, 1) := dk_42 (dk_at dksX4_fails_0 13 rfl rfl)
theorem dX4_fails_14 : decode cX4_fails 14 = .ok (.iload_n 2, 1) := dk_28 (dk_at dksX4_fails_0 14 rfl rfl)
theorem dX4_fails_15 : decode cX4_fails 15 = .ok (.putfield 16, 3) := dk_181 0 16 (dk_at dksX4_fails_0 15 rfl rfl)
theorem dX4_fails_18 : decode cX4_fails 18 = .ok (.return_, 1) := dk_177 (dk_at dksX4_fails_0 18 rfl rfl)
abbrev cX4_kindHere : ByteArray := prog_22_method_21_code
def yX4_kindHere : MethodName := ⟨RX4, "kindHere", "()I"⟩
def dkwX4_kindHere_0 : List UInt8 := [42, 42, 180, 0, 91, 6, 42, 180, 1, 36, 104, 42, 180, 0, 20, 42, 180, 1, 36, 46, 182, 1, 82, 172]
abbrev dktX4_kindHere_0 : List UInt8 := dkwX4_kindHere_0 ++ []
theorem dksX4_kindHere_0 : cX4_kindHere.data.toList.drop 0 = dktX4_kindHere_0 := by decide +kernel
theorem dX4_kindHere_0 : decode cX4_kindHere 0 = .ok (.aload_n 0, 1) := dk_42 (dk_at dksX4_kindHere_0 0 rfl rfl)
theorem dX4_kindHere_1 : decode cX4_kindHere 1 = .ok (.aload_n 0, 1) := dk_42 (dk_at dksX4_kindHere_0 1 rfl rfl)
theorem dX4_kindHere_2 : decode cX4_kindHere 2 = .ok (.getfield 91, 3) := dk_180 0 91 (dk_at dksX4_kindHere_0 2 rfl rfl)
theorem dX4_kindHere_5 : decode cX4_kindHere 5 = .ok (.iconst 3, 1) := dk_6 (dk_at dksX4_kindHere_0 5 rfl rfl)
theorem dX4_kindHere_6 : decode cX4_kindHere 6 = .ok (.aload_n 0, 1) := dk_42 (dk_at dksX4_kindHere_0 6 rfl rfl)
theorem dX4_kindHere_7 : decode cX4_kindHere 7 = .ok (.getfield 292, 3) := dk_180 1 36 (dk_at dksX4_kindHere_0 7 rfl rfl)
theorem dX4_kindHere_10 : decode cX4_kindHere 10 = .ok (.imul, 1) := dk_104 (dk_at dksX4_kindHere_0 10 rfl rfl)
theorem dX4_kindHere_11 : decode cX4_kindHere 11 = .ok (.aload_n 0, 1) := dk_42 (dk_at dksX4_kindHere_0 11 rfl rfl)
theorem dX4_kindHere_12 : decode cX4_kindHere 12 = .ok (.getfield 20, 3) := dk_180 0 20 (dk_at dksX4_kindHere_0 12 rfl rfl)
theorem dX4_kindHere_15 : decode cX4_kindHere 15 = .ok (.aload_n 0, 1) := dk_42 (dk_at dksX4_kindHere_0 15 rfl rfl)
theorem dX4_kindHere_16 : decode cX4_kindHere 16 = .ok (.getfield 292, 3) := dk_180 1 36 (dk_at dksX4_kindHere_0 16 rfl rfl)
theorem dX4_kindHere_19 : decode cX4_kindHere 19 = .ok (.iaload, 1) := dk_46 (dk_at dksX4_kindHere_0 19 rfl rfl)
theorem dX4_kindHere_20 : decode cX4_kindHere 20 = .ok (.invokevirtual 338, 3) := dk_182 1 82 (dk_at dksX4_kindHere_0 20 rfl rfl)
theorem dX4_kindHere_23 : decode cX4_kindHere 23 = .ok (.ireturn, 1) := dk_172 (dk_at dksX4_kindHere_0 23 rfl rfl)
abbrev cX4_here : ByteArray := prog_22_method_20_code
def yX4_here : MethodName := ⟨RX4, "here", "([JII)I"⟩
def dkwX4_here_1 : List UInt8 := [180, 0, 250, 148, 154, 0, 6, 21, 4, 172, 132, 4, 1, 167, 255, 222, 2, 172]
abbrev dktX4_here_1 : List UInt8 := dkwX4_here_1 ++ []
def dkwX4_here_0 : List UInt8 := [3, 54, 4, 21, 4, 29, 162, 0, 34, 42, 180, 0, 243, 5, 160, 0, 20, 43, 28, 21, 4, 96, 47, 42]
abbrev dktX4_here_0 : List UInt8 := dkwX4_here_0 ++ dktX4_here_1
theorem dksX4_here_0 : cX4_here.data.toList.drop 0 = dktX4_here_0 := by decide +kernel
theorem dksX4_here_1 : cX4_here.data.toList.drop 24 = dktX4_here_1 := dk_seg dksX4_here_0 24 rfl rfl
theorem dX4_here_0 : decode cX4_here 0 = .ok (.iconst 0, 1) := dk_3 (dk_at dksX4_here_0 0 rfl rfl)
theorem dX4_here_1 : decode cX4_here 1 = .ok (.istore 4, 2) := dk_54 4 (dk_at dksX4_here_0 1 rfl rfl)
theorem dX4_here_3 : decode cX4_here 3 = .ok (.iload 4, 2) := dk_21 4 (dk_at dksX4_here_0 3 rfl rfl)
theorem dX4_here_5 : decode cX4_here 5 = .ok (.iload_n 3, 1) := dk_29 (dk_at dksX4_here_0 5 rfl rfl)
theorem dX4_here_6 : decode cX4_here 6 = .ok (.if_icmp .ge 34, 3) := dk_162 0 34 (dk_at dksX4_here_0 6 rfl rfl)
theorem dX4_here_9 : decode cX4_here 9 = .ok (.aload_n 0, 1) := dk_42 (dk_at dksX4_here_0 9 rfl rfl)
theorem dX4_here_10 : decode cX4_here 10 = .ok (.getfield 243, 3) := dk_180 0 243 (dk_at dksX4_here_0 10 rfl rfl)
theorem dX4_here_13 : decode cX4_here 13 = .ok (.iconst 2, 1) := dk_5 (dk_at dksX4_here_0 13 rfl rfl)
theorem dX4_here_14 : decode cX4_here 14 = .ok (.if_icmp .ne 20, 3) := dk_160 0 20 (dk_at dksX4_here_0 14 rfl rfl)
theorem dX4_here_17 : decode cX4_here 17 = .ok (.aload_n 1, 1) := dk_43 (dk_at dksX4_here_0 17 rfl rfl)
theorem dX4_here_18 : decode cX4_here 18 = .ok (.iload_n 2, 1) := dk_28 (dk_at dksX4_here_0 18 rfl rfl)
theorem dX4_here_19 : decode cX4_here 19 = .ok (.iload 4, 2) := dk_21 4 (dk_at dksX4_here_0 19 rfl rfl)
theorem dX4_here_21 : decode cX4_here 21 = .ok (.iadd, 1) := dk_96 (dk_at dksX4_here_0 21 rfl rfl)
theorem dX4_here_22 : decode cX4_here 22 = .ok (.laload, 1) := dk_47 (dk_at dksX4_here_0 22 rfl rfl)
theorem dX4_here_23 : decode cX4_here 23 = .ok (.aload_n 0, 1) := dk_42 (dk_at dksX4_here_0 23 rfl rfl)
theorem dX4_here_24 : decode cX4_here 24 = .ok (.getfield 250, 3) := dk_180 0 250 (dk_at dksX4_here_1 0 rfl rfl)
theorem dX4_here_27 : decode cX4_here 27 = .ok (.lcmp, 1) := dk_148 (dk_at dksX4_here_1 3 rfl rfl)
theorem dX4_here_28 : decode cX4_here 28 = .ok (.ifCond .ne 6, 3) := dk_154 0 6 (dk_at dksX4_here_1 4 rfl rfl)
theorem dX4_here_31 : decode cX4_here 31 = .ok (.iload 4, 2) := dk_21 4 (dk_at dksX4_here_1 7 rfl rfl)
theorem dX4_here_33 : decode cX4_here 33 = .ok (.ireturn, 1) := dk_172 (dk_at dksX4_here_1 9 rfl rfl)
theorem dX4_here_34 : decode cX4_here 34 = .ok (.iinc 4 1, 3) := dk_132 4 1 (dk_at dksX4_here_1 10 rfl rfl)
theorem dX4_here_37 : decode cX4_here 37 = .ok (.goto (-34), 3) := dk_167 255 222 (dk_at dksX4_here_1 13 rfl rfl)
theorem dX4_here_40 : decode cX4_here 40 = .ok (.iconst (-1), 1) := dk_2 (dk_at dksX4_here_1 16 rfl rfl)
theorem dX4_here_41 : decode cX4_here 41 = .ok (.ireturn, 1) := dk_172 (dk_at dksX4_here_1 17 rfl rfl)
abbrev cX4_fresh : ByteArray := prog_22_method_23_code
def yX4_fresh : MethodName := ⟨RX4, "fresh", "(I)J"⟩
def dkwX4_fresh_2 : List UInt8 := [153, 0, 7, 42, 182, 1, 19, 32, 173]
abbrev dktX4_fresh_2 : List UInt8 := dkwX4_fresh_2 ++ []
def dkwX4_fresh_1 : List UInt8 := [27, 155, 0, 12, 42, 6, 42, 180, 0, 236, 182, 1, 11, 42, 180, 0, 250, 65, 42, 182, 1, 15]
abbrev dktX4_fresh_1 : List UInt8 := dkwX4_fresh_1 ++ dktX4_fresh_2
def dkwX4_fresh_0 : List UInt8 := [42, 182, 1, 15, 154, 0, 5, 9, 173, 42, 180, 0, 243, 5, 159, 0, 10, 42, 182, 1, 22, 167, 0, 16]
abbrev dktX4_fresh_0 : List UInt8 := dkwX4_fresh_0 ++ dktX4_fresh_1
theorem dksX4_fresh_0 : cX4_fresh.data.toList.drop 0 = dktX4_fresh_0 := by decide +kernel
theorem dksX4_fresh_1 : cX4_fresh.data.toList.drop 24 = dktX4_fresh_1 := dk_seg dksX4_fresh_0 24 rfl rfl
theorem dksX4_fresh_2 : cX4_fresh.data.toList.drop 46 = dktX4_fresh_2 := dk_seg dksX4_fresh_1 22 rfl rfl
theorem dX4_fresh_0 : decode cX4_fresh 0 = .ok (.aload_n 0, 1) := dk_42 (dk_at dksX4_fresh_0 0 rfl rfl)
theorem dX4_fresh_1 : decode cX4_fresh 1 = .ok (.invokevirtual 271, 3) := dk_182 1 15 (dk_at dksX4_fresh_0 1 rfl rfl)
theorem dX4_fresh_4 : decode cX4_fresh 4 = .ok (.ifCond .ne 5, 3) := dk_154 0 5 (dk_at dksX4_fresh_0 4 rfl rfl)
theorem dX4_fresh_7 : decode cX4_fresh 7 = .ok (.lconst 0, 1) := dk_9 (dk_at dksX4_fresh_0 7 rfl rfl)
theorem dX4_fresh_8 : decode cX4_fresh 8 = .ok (.lreturn, 1) := dk_173 (dk_at dksX4_fresh_0 8 rfl rfl)
theorem dX4_fresh_9 : decode cX4_fresh 9 = .ok (.aload_n 0, 1) := dk_42 (dk_at dksX4_fresh_0 9 rfl rfl)
theorem dX4_fresh_10 : decode cX4_fresh 10 = .ok (.getfield 243, 3) := dk_180 0 243 (dk_at dksX4_fresh_0 10 rfl rfl)
theorem dX4_fresh_13 : decode cX4_fresh 13 = .ok (.iconst 2, 1) := dk_5 (dk_at dksX4_fresh_0 13 rfl rfl)
theorem dX4_fresh_14 : decode cX4_fresh 14 = .ok (.if_icmp .eq 10, 3) := dk_159 0 10 (dk_at dksX4_fresh_0 14 rfl rfl)
theorem dX4_fresh_17 : decode cX4_fresh 17 = .ok (.aload_n 0, 1) := dk_42 (dk_at dksX4_fresh_0 17 rfl rfl)
theorem dX4_fresh_18 : decode cX4_fresh 18 = .ok (.invokevirtual 278, 3) := dk_182 1 22 (dk_at dksX4_fresh_0 18 rfl rfl)
theorem dX4_fresh_21 : decode cX4_fresh 21 = .ok (.goto 16, 3) := dk_167 0 16 (dk_at dksX4_fresh_0 21 rfl rfl)
theorem dX4_fresh_24 : decode cX4_fresh 24 = .ok (.iload_n 1, 1) := dk_27 (dk_at dksX4_fresh_1 0 rfl rfl)
theorem dX4_fresh_25 : decode cX4_fresh 25 = .ok (.ifCond .lt 12, 3) := dk_155 0 12 (dk_at dksX4_fresh_1 1 rfl rfl)
theorem dX4_fresh_28 : decode cX4_fresh 28 = .ok (.aload_n 0, 1) := dk_42 (dk_at dksX4_fresh_1 4 rfl rfl)
theorem dX4_fresh_29 : decode cX4_fresh 29 = .ok (.iconst 3, 1) := dk_6 (dk_at dksX4_fresh_1 5 rfl rfl)
theorem dX4_fresh_30 : decode cX4_fresh 30 = .ok (.aload_n 0, 1) := dk_42 (dk_at dksX4_fresh_1 6 rfl rfl)
theorem dX4_fresh_31 : decode cX4_fresh 31 = .ok (.getfield 236, 3) := dk_180 0 236 (dk_at dksX4_fresh_1 7 rfl rfl)
theorem dX4_fresh_34 : decode cX4_fresh 34 = .ok (.invokevirtual 267, 3) := dk_182 1 11 (dk_at dksX4_fresh_1 10 rfl rfl)
theorem dX4_fresh_37 : decode cX4_fresh 37 = .ok (.aload_n 0, 1) := dk_42 (dk_at dksX4_fresh_1 13 rfl rfl)
theorem dX4_fresh_38 : decode cX4_fresh 38 = .ok (.getfield 250, 3) := dk_180 0 250 (dk_at dksX4_fresh_1 14 rfl rfl)
theorem dX4_fresh_41 : decode cX4_fresh 41 = .ok (.lstore_n 2, 1) := dk_65 (dk_at dksX4_fresh_1 17 rfl rfl)
theorem dX4_fresh_42 : decode cX4_fresh 42 = .ok (.aload_n 0, 1) := dk_42 (dk_at dksX4_fresh_1 18 rfl rfl)
theorem dX4_fresh_43 : decode cX4_fresh 43 = .ok (.invokevirtual 271, 3) := dk_182 1 15 (dk_at dksX4_fresh_1 19 rfl rfl)
theorem dX4_fresh_46 : decode cX4_fresh 46 = .ok (.ifCond .eq 7, 3) := dk_153 0 7 (dk_at dksX4_fresh_2 0 rfl rfl)
theorem dX4_fresh_49 : decode cX4_fresh 49 = .ok (.aload_n 0, 1) := dk_42 (dk_at dksX4_fresh_2 3 rfl rfl)
theorem dX4_fresh_50 : decode cX4_fresh 50 = .ok (.invokevirtual 275, 3) := dk_182 1 19 (dk_at dksX4_fresh_2 4 rfl rfl)
theorem dX4_fresh_53 : decode cX4_fresh 53 = .ok (.lload_n 2, 1) := dk_32 (dk_at dksX4_fresh_2 7 rfl rfl)
theorem dX4_fresh_54 : decode cX4_fresh 54 = .ok (.lreturn, 1) := dk_173 (dk_at dksX4_fresh_2 8 rfl rfl)
abbrev cX4_readMan : ByteArray := prog_22_method_25_code
def yX4_readMan : MethodName := ⟨RX4, "readMan", "()V"⟩
def dkwX4_readMan_6 : List UInt8 := [132, 2, 1, 167, 255, 226, 42, 180, 0, 24, 42, 180, 1, 36, 92, 46, 4, 96, 79, 177]
abbrev dktX4_readMan_6 : List UInt8 := dkwX4_readMan_6 ++ []
def dkwX4_readMan_5 : List UInt8 := [42, 180, 0, 54, 6, 27, 104, 28, 96, 3, 79, 42, 180, 0, 57, 6, 27, 104, 28, 96, 3, 79]
abbrev dktX4_readMan_5 : List UInt8 := dkwX4_readMan_5 ++ dktX4_readMan_6
def dkwX4_readMan_4 : List UInt8 := [16, 10, 79, 42, 180, 0, 60, 27, 3, 79, 42, 180, 0, 63, 27, 3, 79, 3, 61, 28, 6, 162, 0, 31]
abbrev dktX4_readMan_4 : List UInt8 := dkwX4_readMan_4 ++ dktX4_readMan_5
def dkwX4_readMan_3 : List UInt8 := [92, 46, 4, 42, 180, 0, 24, 42, 180, 1, 36, 46, 120, 128, 79, 42, 182, 1, 19, 42, 180, 0, 51, 27]
abbrev dktX4_readMan_3 : List UInt8 := dkwX4_readMan_3 ++ dktX4_readMan_4
def dkwX4_readMan_2 : List UInt8 := [182, 1, 15, 153, 0, 40, 42, 20, 0, 197, 182, 1, 25, 153, 0, 30, 42, 180, 0, 42, 42, 180, 1, 36]
abbrev dktX4_readMan_2 : List UInt8 := dkwX4_readMan_2 ++ dktX4_readMan_3
def dkwX4_readMan_1 : List UInt8 := [182, 1, 86, 182, 1, 58, 80, 42, 180, 0, 48, 27, 42, 20, 0, 195, 3, 16, 99, 182, 1, 89, 79, 42]
abbrev dktX4_readMan_1 : List UInt8 := dkwX4_readMan_1 ++ dktX4_readMan_2
def dkwX4_readMan_0 : List UInt8 := [8, 42, 180, 1, 36, 104, 42, 180, 0, 24, 42, 180, 1, 36, 46, 96, 60, 42, 180, 0, 95, 27, 42, 42]
abbrev dktX4_readMan_0 : List UInt8 := dkwX4_readMan_0 ++ dktX4_readMan_1
theorem dksX4_readMan_0 : cX4_readMan.data.toList.drop 0 = dktX4_readMan_0 := by decide +kernel
theorem dksX4_readMan_1 : cX4_readMan.data.toList.drop 24 = dktX4_readMan_1 := dk_seg dksX4_readMan_0 24 rfl rfl
theorem dksX4_readMan_2 : cX4_readMan.data.toList.drop 48 = dktX4_readMan_2 := dk_seg dksX4_readMan_1 24 rfl rfl
theorem dksX4_readMan_3 : cX4_readMan.data.toList.drop 72 = dktX4_readMan_3 := dk_seg dksX4_readMan_2 24 rfl rfl
theorem dksX4_readMan_4 : cX4_readMan.data.toList.drop 96 = dktX4_readMan_4 := dk_seg dksX4_readMan_3 24 rfl rfl
theorem dksX4_readMan_5 : cX4_readMan.data.toList.drop 120 = dktX4_readMan_5 := dk_seg dksX4_readMan_4 24 rfl rfl
theorem dksX4_readMan_6 : cX4_readMan.data.toList.drop 142 = dktX4_readMan_6 := dk_seg dksX4_readMan_5 22 rfl rfl
theorem dX4_readMan_0 : decode cX4_readMan 0 = .ok (.iconst 5, 1) := dk_8 (dk_at dksX4_readMan_0 0 rfl rfl)
theorem dX4_readMan_1 : decode cX4_readMan 1 = .ok (.aload_n 0, 1) := dk_42 (dk_at dksX4_readMan_0 1 rfl rfl)
theorem dX4_readMan_2 : decode cX4_readMan 2 = .ok (.getfield 292, 3) := dk_180 1 36 (dk_at dksX4_readMan_0 2 rfl rfl)
theorem dX4_readMan_5 : decode cX4_readMan 5 = .ok (.imul, 1) := dk_104 (dk_at dksX4_readMan_0 5 rfl rfl)
theorem dX4_readMan_6 : decode cX4_readMan 6 = .ok (.aload_n 0, 1) := dk_42 (dk_at dksX4_readMan_0 6 rfl rfl)
theorem dX4_readMan_7 : decode cX4_readMan 7 = .ok (.getfield 24, 3) := dk_180 0 24 (dk_at dksX4_readMan_0 7 rfl rfl)
theorem dX4_readMan_10 : decode cX4_readMan 10 = .ok (.aload_n 0, 1) := dk_42 (dk_at dksX4_readMan_0 10 rfl rfl)
theorem dX4_readMan_11 : decode cX4_readMan 11 = .ok (.getfield 292, 3) := dk_180 1 36 (dk_at dksX4_readMan_0 11 rfl rfl)
theorem dX4_readMan_14 : decode cX4_readMan 14 = .ok (.iaload, 1) := dk_46 (dk_at dksX4_readMan_0 14 rfl rfl)
theorem dX4_readMan_15 : decode cX4_readMan 15 = .ok (.iadd, 1) := dk_96 (dk_at dksX4_readMan_0 15 rfl rfl)
theorem dX4_readMan_16 : decode cX4_readMan 16 = .ok (.istore_n 1, 1) := dk_60 (dk_at dksX4_readMan_0 16 rfl rfl)
theorem dX4_readMan_17 : decode cX4_readMan 17 = .ok (.aload_n 0, 1) := dk_42 (dk_at dksX4_readMan_0 17 rfl rfl)
theorem dX4_readMan_18 : decode cX4_readMan 18 = .ok (.getfield 95, 3) := dk_180 0 95 (dk_at dksX4_readMan_0 18 rfl rfl)
theorem dX4_readMan_21 : decode cX4_readMan 21 = .ok (.iload_n 1, 1) := dk_27 (dk_at dksX4_readMan_0 21 rfl rfl)
theorem dX4_readMan_22 : decode cX4_readMan 22 = .ok (.aload_n 0, 1) := dk_42 (dk_at dksX4_readMan_0 22 rfl rfl)
theorem dX4_readMan_23 : decode cX4_readMan 23 = .ok (.aload_n 0, 1) := dk_42 (dk_at dksX4_readMan_0 23 rfl rfl)
theorem dX4_readMan_24 : decode cX4_readMan 24 = .ok (.invokevirtual 342, 3) := dk_182 1 86 (dk_at dksX4_readMan_1 0 rfl rfl)
theorem dX4_readMan_27 : decode cX4_readMan 27 = .ok (.invokevirtual 314, 3) := dk_182 1 58 (dk_at dksX4_readMan_1 3 rfl rfl)
theorem dX4_readMan_30 : decode cX4_readMan 30 = .ok (.lastore, 1) := dk_80 (dk_at dksX4_readMan_1 6 rfl rfl)
theorem dX4_readMan_31 : decode cX4_readMan 31 = .ok (.aload_n 0, 1) := dk_42 (dk_at dksX4_readMan_1 7 rfl rfl)
theorem dX4_readMan_32 : decode cX4_readMan 32 = .ok (.getfield 48, 3) := dk_180 0 48 (dk_at dksX4_readMan_1 8 rfl rfl)
theorem dX4_readMan_35 : decode cX4_readMan 35 = .ok (.iload_n 1, 1) := dk_27 (dk_at dksX4_readMan_1 11 rfl rfl)
theorem dX4_readMan_36 : decode cX4_readMan 36 = .ok (.aload_n 0, 1) := dk_42 (dk_at dksX4_readMan_1 12 rfl rfl)
theorem dX4_readMan_37 : decode cX4_readMan 37 = .ok (.ldc2_w 195, 3) := dk_20 0 195 (dk_at dksX4_readMan_1 13 rfl rfl)
theorem dX4_readMan_40 : decode cX4_readMan 40 = .ok (.iconst 0, 1) := dk_3 (dk_at dksX4_readMan_1 16 rfl rfl)
theorem dX4_readMan_41 : decode cX4_readMan 41 = .ok (.bipush 99, 2) := dk_16 99 (dk_at dksX4_readMan_1 17 rfl rfl)
theorem dX4_readMan_43 : decode cX4_readMan 43 = .ok (.invokevirtual 345, 3) := dk_182 1 89 (dk_at dksX4_readMan_1 19 rfl rfl)
theorem dX4_readMan_46 : decode cX4_readMan 46 = .ok (.iastore, 1) := dk_79 (dk_at dksX4_readMan_1 22 rfl rfl)
theorem dX4_readMan_47 : decode cX4_readMan 47 = .ok (.aload_n 0, 1) := dk_42 (dk_at dksX4_readMan_1 23 rfl rfl)
theorem dX4_readMan_48 : decode cX4_readMan 48 = .ok (.invokevirtual 271, 3) := dk_182 1 15 (dk_at dksX4_readMan_2 0 rfl rfl)
theorem dX4_readMan_51 : decode cX4_readMan 51 = .ok (.ifCond .eq 40, 3) := dk_153 0 40 (dk_at dksX4_readMan_2 3 rfl rfl)
theorem dX4_readMan_54 : decode cX4_readMan 54 = .ok (.aload_n 0, 1) := dk_42 (dk_at dksX4_readMan_2 6 rfl rfl)
theorem dX4_readMan_55 : decode cX4_readMan 55 = .ok (.ldc2_w 197, 3) := dk_20 0 197 (dk_at dksX4_readMan_2 7 rfl rfl)
theorem dX4_readMan_58 : decode cX4_readMan 58 = .ok (.invokevirtual 281, 3) := dk_182 1 25 (dk_at dksX4_readMan_2 10 rfl rfl)
theorem dX4_readMan_61 : decode cX4_readMan 61 = .ok (.ifCond .eq 30, 3) := dk_153 0 30 (dk_at dksX4_readMan_2 13 rfl rfl)
theorem dX4_readMan_64 : decode cX4_readMan 64 = .ok (.aload_n 0, 1) := dk_42 (dk_at dksX4_readMan_2 16 rfl rfl)
theorem dX4_readMan_65 : decode cX4_readMan 65 = .ok (.getfield 42, 3) := dk_180 0 42 (dk_at dksX4_readMan_2 17 rfl rfl)
theorem dX4_readMan_68 : decode cX4_readMan 68 = .ok (.aload_n 0, 1) := dk_42 (dk_at dksX4_readMan_2 20 rfl rfl)
theorem dX4_readMan_69 : decode cX4_readMan 69 = .ok (.getfield 292, 3) := dk_180 1 36 (dk_at dksX4_readMan_2 21 rfl rfl)
theorem dX4_readMan_72 : decode cX4_readMan 72 = .ok (.dup2, 1) := dk_92 (dk_at dksX4_readMan_3 0 rfl rfl)
theorem dX4_readMan_73 : decode cX4_readMan 73 = .ok (.iaload, 1) := dk_46 (dk_at dksX4_readMan_3 1 rfl rfl)
theorem dX4_readMan_74 : decode cX4_readMan 74 = .ok (.iconst 1, 1) := dk_4 (dk_at dksX4_readMan_3 2 rfl rfl)
theorem dX4_readMan_75 : decode cX4_readMan 75 = .ok (.aload_n 0, 1) := dk_42 (dk_at dksX4_readMan_3 3 rfl rfl)
theorem dX4_readMan_76 : decode cX4_readMan 76 = .ok (.getfield 24, 3) := dk_180 0 24 (dk_at dksX4_readMan_3 4 rfl rfl)
theorem dX4_readMan_79 : decode cX4_readMan 79 = .ok (.aload_n 0, 1) := dk_42 (dk_at dksX4_readMan_3 7 rfl rfl)
theorem dX4_readMan_80 : decode cX4_readMan 80 = .ok (.getfield 292, 3) := dk_180 1 36 (dk_at dksX4_readMan_3 8 rfl rfl)
theorem dX4_readMan_83 : decode cX4_readMan 83 = .ok (.iaload, 1) := dk_46 (dk_at dksX4_readMan_3 11 rfl rfl)
theorem dX4_readMan_84 : decode cX4_readMan 84 = .ok (.ishl, 1) := dk_120 (dk_at dksX4_readMan_3 12 rfl rfl)
theorem dX4_readMan_85 : decode cX4_readMan 85 = .ok (.ior, 1) := dk_128 (dk_at dksX4_readMan_3 13 rfl rfl)
theorem dX4_readMan_86 : decode cX4_readMan 86 = .ok (.iastore, 1) := dk_79 (dk_at dksX4_readMan_3 14 rfl rfl)
theorem dX4_readMan_87 : decode cX4_readMan 87 = .ok (.aload_n 0, 1) := dk_42 (dk_at dksX4_readMan_3 15 rfl rfl)
theorem dX4_readMan_88 : decode cX4_readMan 88 = .ok (.invokevirtual 275, 3) := dk_182 1 19 (dk_at dksX4_readMan_3 16 rfl rfl)
theorem dX4_readMan_91 : decode cX4_readMan 91 = .ok (.aload_n 0, 1) := dk_42 (dk_at dksX4_readMan_3 19 rfl rfl)
theorem dX4_readMan_92 : decode cX4_readMan 92 = .ok (.getfield 51, 3) := dk_180 0 51 (dk_at dksX4_readMan_3 20 rfl rfl)
theorem dX4_readMan_95 : decode cX4_readMan 95 = .ok (.iload_n 1, 1) := dk_27 (dk_at dksX4_readMan_3 23 rfl rfl)
theorem dX4_readMan_96 : decode cX4_readMan 96 = .ok (.bipush 10, 2) := dk_16 10 (dk_at dksX4_readMan_4 0 rfl rfl)
theorem dX4_readMan_98 : decode cX4_readMan 98 = .ok (.iastore, 1) := dk_79 (dk_at dksX4_readMan_4 2 rfl rfl)
theorem dX4_readMan_99 : decode cX4_readMan 99 = .ok (.aload_n 0, 1) := dk_42 (dk_at dksX4_readMan_4 3 rfl rfl)
theorem dX4_readMan_100 : decode cX4_readMan 100 = .ok (.getfield 60, 3) := dk_180 0 60 (dk_at dksX4_readMan_4 4 rfl rfl)
theorem dX4_readMan_103 : decode cX4_readMan 103 = .ok (.iload_n 1, 1) := dk_27 (dk_at dksX4_readMan_4 7 rfl rfl)
theorem dX4_readMan_104 : decode cX4_readMan 104 = .ok (.iconst 0, 1) := dk_3 (dk_at dksX4_readMan_4 8 rfl rfl)
theorem dX4_readMan_105 : decode cX4_readMan 105 = .ok (.iastore, 1) := dk_79 (dk_at dksX4_readMan_4 9 rfl rfl)
theorem dX4_readMan_106 : decode cX4_readMan 106 = .ok (.aload_n 0, 1) := dk_42 (dk_at dksX4_readMan_4 10 rfl rfl)
theorem dX4_readMan_107 : decode cX4_readMan 107 = .ok (.getfield 63, 3) := dk_180 0 63 (dk_at dksX4_readMan_4 11 rfl rfl)
theorem dX4_readMan_110 : decode cX4_readMan 110 = .ok (.iload_n 1, 1) := dk_27 (dk_at dksX4_readMan_4 14 rfl rfl)
theorem dX4_readMan_111 : decode cX4_readMan 111 = .ok (.iconst 0, 1) := dk_3 (dk_at dksX4_readMan_4 15 rfl rfl)
theorem dX4_readMan_112 : decode cX4_readMan 112 = .ok (.iastore, 1) := dk_79 (dk_at dksX4_readMan_4 16 rfl rfl)
theorem dX4_readMan_113 : decode cX4_readMan 113 = .ok (.iconst 0, 1) := dk_3 (dk_at dksX4_readMan_4 17 rfl rfl)
theorem dX4_readMan_114 : decode cX4_readMan 114 = .ok (.istore_n 2, 1) := dk_61 (dk_at dksX4_readMan_4 18 rfl rfl)
theorem dX4_readMan_115 : decode cX4_readMan 115 = .ok (.iload_n 2, 1) := dk_28 (dk_at dksX4_readMan_4 19 rfl rfl)
theorem dX4_readMan_116 : decode cX4_readMan 116 = .ok (.iconst 3, 1) := dk_6 (dk_at dksX4_readMan_4 20 rfl rfl)
theorem dX4_readMan_117 : decode cX4_readMan 117 = .ok (.if_icmp .ge 31, 3) := dk_162 0 31 (dk_at dksX4_readMan_4 21 rfl rfl)
theorem dX4_readMan_120 : decode cX4_readMan 120 = .ok (.aload_n 0, 1) := dk_42 (dk_at dksX4_readMan_5 0 rfl rfl)
theorem dX4_readMan_121 : decode cX4_readMan 121 = .ok (.getfield 54, 3) := dk_180 0 54 (dk_at dksX4_readMan_5 1 rfl rfl)
theorem dX4_readMan_124 : decode cX4_readMan 124 = .ok (.iconst 3, 1) := dk_6 (dk_at dksX4_readMan_5 4 rfl rfl)
theorem dX4_readMan_125 : decode cX4_readMan 125 = .ok (.iload_n 1, 1) := dk_27 (dk_at dksX4_readMan_5 5 rfl rfl)
theorem dX4_readMan_126 : decode cX4_readMan 126 = .ok (.imul, 1) := dk_104 (dk_at dksX4_readMan_5 6 rfl rfl)
theorem dX4_readMan_127 : decode cX4_readMan 127 = .ok (.iload_n 2, 1) := dk_28 (dk_at dksX4_readMan_5 7 rfl rfl)
theorem dX4_readMan_128 : decode cX4_readMan 128 = .ok (.iadd, 1) := dk_96 (dk_at dksX4_readMan_5 8 rfl rfl)
theorem dX4_readMan_129 : decode cX4_readMan 129 = .ok (.iconst 0, 1) := dk_3 (dk_at dksX4_readMan_5 9 rfl rfl)
theorem dX4_readMan_130 : decode cX4_readMan 130 = .ok (.iastore, 1) := dk_79 (dk_at dksX4_readMan_5 10 rfl rfl)
theorem dX4_readMan_131 : decode cX4_readMan 131 = .ok (.aload_n 0, 1) := dk_42 (dk_at dksX4_readMan_5 11 rfl rfl)
theorem dX4_readMan_132 : decode cX4_readMan 132 = .ok (.getfield 57, 3) := dk_180 0 57 (dk_at dksX4_readMan_5 12 rfl rfl)
theorem dX4_readMan_135 : decode cX4_readMan 135 = .ok (.iconst 3, 1) := dk_6 (dk_at dksX4_readMan_5 15 rfl rfl)
theorem dX4_readMan_136 : decode cX4_readMan 136 = .ok (.iload_n 1, 1) := dk_27 (dk_at dksX4_readMan_5 16 rfl rfl)
theorem dX4_readMan_137 : decode cX4_readMan 137 = .ok (.imul, 1) := dk_104 (dk_at dksX4_readMan_5 17 rfl rfl)
theorem dX4_readMan_138 : decode cX4_readMan 138 = .ok (.iload_n 2, 1) := dk_28 (dk_at dksX4_readMan_5 18 rfl rfl)
theorem dX4_readMan_139 : decode cX4_readMan 139 = .ok (.iadd, 1) := dk_96 (dk_at dksX4_readMan_5 19 rfl rfl)
theorem dX4_readMan_140 : decode cX4_readMan 140 = .ok (.iconst 0, 1) := dk_3 (dk_at dksX4_readMan_5 20 rfl rfl)
theorem dX4_readMan_141 : decode cX4_readMan 141 = .ok (.iastore, 1) := dk_79 (dk_at dksX4_readMan_5 21 rfl rfl)
theorem dX4_readMan_142 : decode cX4_readMan 142 = .ok (.iinc 2 1, 3) := dk_132 2 1 (dk_at dksX4_readMan_6 0 rfl rfl)
theorem dX4_readMan_145 : decode cX4_readMan 145 = .ok (.goto (-30), 3) := dk_167 255 226 (dk_at dksX4_readMan_6 3 rfl rfl)
theorem dX4_readMan_148 : decode cX4_readMan 148 = .ok (.aload_n 0, 1) := dk_42 (dk_at dksX4_readMan_6 6 rfl rfl)
theorem dX4_readMan_149 : decode cX4_readMan 149 = .ok (.getfield 24, 3) := dk_180 0 24 (dk_at dksX4_readMan_6 7 rfl rfl)
theorem dX4_readMan_152 : decode cX4_readMan 152 = .ok (.aload_n 0, 1) := dk_42 (dk_at dksX4_readMan_6 10 rfl rfl)
theorem dX4_readMan_153 : decode cX4_readMan 153 = .ok (.getfield 292, 3) := dk_180 1 36 (dk_at dksX4_readMan_6 11 rfl rfl)
theorem dX4_readMan_156 : decode cX4_readMan 156 = .ok (.dup2, 1) := dk_92 (dk_at dksX4_readMan_6 14 rfl rfl)
theorem dX4_readMan_157 : decode cX4_readMan 157 = .ok (.iaload, 1) := dk_46 (dk_at dksX4_readMan_6 15 rfl rfl)
theorem dX4_readMan_158 : decode cX4_readMan 158 = .ok (.iconst 1, 1) := dk_4 (dk_at dksX4_readMan_6 16 rfl rfl)
theorem dX4_readMan_159 : decode cX4_readMan 159 = .ok (.iadd, 1) := dk_96 (dk_at dksX4_readMan_6 17 rfl rfl)
theorem dX4_readMan_160 : decode cX4_readMan 160 = .ok (.iastore, 1) := dk_79 (dk_at dksX4_readMan_6 18 rfl rfl)
theorem dX4_readMan_161 : decode cX4_readMan 161 = .ok (.return_, 1) := dk_177 (dk_at dksX4_readMan_6 19 rfl rfl)
abbrev cX4_manHere : ByteArray := prog_22_method_22_code
def yX4_manHere : MethodName := ⟨RX4, "manHere", "()I"⟩
def dkwX4_manHere_0 : List UInt8 := [42, 42, 180, 0, 95, 8, 42, 180, 1, 36, 104, 42, 180, 0, 24, 42, 180, 1, 36, 46, 182, 1, 82, 172]
abbrev dktX4_manHere_0 : List UInt8 := dkwX4_manHere_0 ++ []
theorem dksX4_manHere_0 : cX4_manHere.data.toList.drop 0 = dktX4_manHere_0 := by decide +kernel
theorem dX4_manHere_0 : decode cX4_manHere 0 = .ok (.aload_n 0, 1) := dk_42 (dk_at dksX4_manHere_0 0 rfl rfl)
theorem dX4_manHere_1 : decode cX4_manHere 1 = .ok (.aload_n 0, 1) := dk_42 (dk_at dksX4_manHere_0 1 rfl rfl)
theorem dX4_manHere_2 : decode cX4_manHere 2 = .ok (.getfield 95, 3) := dk_180 0 95 (dk_at dksX4_manHere_0 2 rfl rfl)
theorem dX4_manHere_5 : decode cX4_manHere 5 = .ok (.iconst 5, 1) := dk_8 (dk_at dksX4_manHere_0 5 rfl rfl)
theorem dX4_manHere_6 : decode cX4_manHere 6 = .ok (.aload_n 0, 1) := dk_42 (dk_at dksX4_manHere_0 6 rfl rfl)
theorem dX4_manHere_7 : decode cX4_manHere 7 = .ok (.getfield 292, 3) := dk_180 1 36 (dk_at dksX4_manHere_0 7 rfl rfl)
theorem dX4_manHere_10 : decode cX4_manHere 10 = .ok (.imul, 1) := dk_104 (dk_at dksX4_manHere_0 10 rfl rfl)
theorem dX4_manHere_11 : decode cX4_manHere 11 = .ok (.aload_n 0, 1) := dk_42 (dk_at dksX4_manHere_0 11 rfl rfl)
theorem dX4_manHere_12 : decode cX4_manHere 12 = .ok (.getfield 24, 3) := dk_180 0 24 (dk_at dksX4_manHere_0 12 rfl rfl)
theorem dX4_manHere_15 : decode cX4_manHere 15 = .ok (.aload_n 0, 1) := dk_42 (dk_at dksX4_manHere_0 15 rfl rfl)
theorem dX4_manHere_16 : decode cX4_manHere 16 = .ok (.getfield 292, 3) := dk_180 1 36 (dk_at dksX4_manHere_0 16 rfl rfl)
theorem dX4_manHere_19 : decode cX4_manHere 19 = .ok (.iaload, 1) := dk_46 (dk_at dksX4_manHere_0 19 rfl rfl)
theorem dX4_manHere_20 : decode cX4_manHere 20 = .ok (.invokevirtual 338, 3) := dk_182 1 82 (dk_at dksX4_manHere_0 20 rfl rfl)
theorem dX4_manHere_23 : decode cX4_manHere 23 = .ok (.ireturn, 1) := dk_172 (dk_at dksX4_manHere_0 23 rfl rfl)
abbrev cX4_after : ByteArray := prog_22_method_15_code
def yX4_after : MethodName := ⟨RX4, "after", "(JII)I"⟩
def dkwX4_after_0 : List UInt8 := [42, 42, 31, 182, 1, 25, 182, 1, 28, 42, 29, 21, 4, 182, 1, 32, 172]
abbrev dktX4_after_0 : List UInt8 := dkwX4_after_0 ++ []
theorem dksX4_after_0 : cX4_after.data.toList.drop 0 = dktX4_after_0 := by decide +kernel
theorem dX4_after_0 : decode cX4_after 0 = .ok (.aload_n 0, 1) := dk_42 (dk_at dksX4_after_0 0 rfl rfl)
theorem dX4_after_1 : decode cX4_after 1 = .ok (.aload_n 0, 1) := dk_42 (dk_at dksX4_after_0 1 rfl rfl)
theorem dX4_after_2 : decode cX4_after 2 = .ok (.lload_n 1, 1) := dk_31 (dk_at dksX4_after_0 2 rfl rfl)
theorem dX4_after_3 : decode cX4_after 3 = .ok (.invokevirtual 281, 3) := dk_182 1 25 (dk_at dksX4_after_0 3 rfl rfl)
theorem dX4_after_6 : decode cX4_after 6 = .ok (.invokevirtual 284, 3) := dk_182 1 28 (dk_at dksX4_after_0 6 rfl rfl)
theorem dX4_after_9 : decode cX4_after 9 = .ok (.aload_n 0, 1) := dk_42 (dk_at dksX4_after_0 9 rfl rfl)
theorem dX4_after_10 : decode cX4_after 10 = .ok (.iload_n 3, 1) := dk_29 (dk_at dksX4_after_0 10 rfl rfl)
theorem dX4_after_11 : decode cX4_after 11 = .ok (.iload 4, 2) := dk_21 4 (dk_at dksX4_after_0 11 rfl rfl)
theorem dX4_after_13 : decode cX4_after 13 = .ok (.invokevirtual 288, 3) := dk_182 1 32 (dk_at dksX4_after_0 13 rfl rfl)
theorem dX4_after_16 : decode cX4_after 16 = .ok (.ireturn, 1) := dk_172 (dk_at dksX4_after_0 16 rfl rfl)
abbrev cX4_must : ByteArray := prog_22_method_13_code
def yX4_must : MethodName := ⟨RX4, "must", "(Z)V"⟩
def dkwX4_must_0 : List UInt8 := [42, 182, 1, 15, 154, 0, 4, 177, 27, 153, 0, 10, 42, 182, 1, 19, 167, 0, 7, 42, 182, 1, 22, 177]
abbrev dktX4_must_0 : List UInt8 := dkwX4_must_0 ++ []
theorem dksX4_must_0 : cX4_must.data.toList.drop 0 = dktX4_must_0 := by decide +kernel
theorem dX4_must_0 : decode cX4_must 0 = .ok (.aload_n 0, 1) := dk_42 (dk_at dksX4_must_0 0 rfl rfl)
theorem dX4_must_1 : decode cX4_must 1 = .ok (.invokevirtual 271, 3) := dk_182 1 15 (dk_at dksX4_must_0 1 rfl rfl)
theorem dX4_must_4 : decode cX4_must 4 = .ok (.ifCond .ne 4, 3) := dk_154 0 4 (dk_at dksX4_must_0 4 rfl rfl)
theorem dX4_must_7 : decode cX4_must 7 = .ok (.return_, 1) := dk_177 (dk_at dksX4_must_0 7 rfl rfl)
theorem dX4_must_8 : decode cX4_must 8 = .ok (.iload_n 1, 1) := dk_27 (dk_at dksX4_must_0 8 rfl rfl)
theorem dX4_must_9 : decode cX4_must 9 = .ok (.ifCond .eq 10, 3) := dk_153 0 10 (dk_at dksX4_must_0 9 rfl rfl)
theorem dX4_must_12 : decode cX4_must 12 = .ok (.aload_n 0, 1) := dk_42 (dk_at dksX4_must_0 12 rfl rfl)
theorem dX4_must_13 : decode cX4_must 13 = .ok (.invokevirtual 275, 3) := dk_182 1 19 (dk_at dksX4_must_0 13 rfl rfl)
theorem dX4_must_16 : decode cX4_must 16 = .ok (.goto 7, 3) := dk_167 0 7 (dk_at dksX4_must_0 16 rfl rfl)
theorem dX4_must_19 : decode cX4_must 19 = .ok (.aload_n 0, 1) := dk_42 (dk_at dksX4_must_0 19 rfl rfl)
theorem dX4_must_20 : decode cX4_must 20 = .ok (.invokevirtual 278, 3) := dk_182 1 22 (dk_at dksX4_must_0 20 rfl rfl)
theorem dX4_must_23 : decode cX4_must 23 = .ok (.return_, 1) := dk_177 (dk_at dksX4_must_0 23 rfl rfl)
abbrev cX4_numeral : ByteArray := prog_22_method_14_code
def yX4_numeral : MethodName := ⟨RX4, "numeral", "(II)I"⟩
def dkwX4_numeral_3 : List UInt8 := [182, 1, 15, 153, 0, 7, 29, 167, 0, 4, 27, 172]
abbrev dktX4_numeral_3 : List UInt8 := dkwX4_numeral_3 ++ []
def dkwX4_numeral_2 : List UInt8 := [42, 180, 0, 236, 182, 1, 11, 42, 180, 1, 5, 62, 42, 182, 1, 15, 153, 0, 7, 42, 182, 1, 19, 42]
abbrev dktX4_numeral_2 : List UInt8 := dkwX4_numeral_2 ++ dktX4_numeral_3
def dkwX4_numeral_1 : List UInt8 := [182, 1, 15, 153, 0, 28, 42, 180, 1, 5, 27, 161, 0, 11, 42, 180, 1, 5, 28, 164, 0, 12, 42, 7]
abbrev dktX4_numeral_1 : List UInt8 := dkwX4_numeral_1 ++ dktX4_numeral_2
def dkwX4_numeral_0 : List UInt8 := [42, 182, 1, 15, 154, 0, 5, 27, 172, 42, 180, 0, 243, 7, 159, 0, 7, 42, 182, 1, 22, 42]
abbrev dktX4_numeral_0 : List UInt8 := dkwX4_numeral_0 ++ dktX4_numeral_1
theorem dksX4_numeral_0 : cX4_numeral.data.toList.drop 0 = dktX4_numeral_0 := by decide +kernel
theorem dksX4_numeral_1 : cX4_numeral.data.toList.drop 22 = dktX4_numeral_1 := dk_seg dksX4_numeral_0 22 rfl rfl
theorem dksX4_numeral_2 : cX4_numeral.data.toList.drop 46 = dktX4_numeral_2 := dk_seg dksX4_numeral_1 24 rfl rfl
theorem dksX4_numeral_3 : cX4_numeral.data.toList.drop 70 = dktX4_numeral_3 := dk_seg dksX4_numeral_2 24 rfl rfl
theorem dX4_numeral_0 : decode cX4_numeral 0 = .ok (.aload_n 0, 1) := dk_42 (dk_at dksX4_numeral_0 0 rfl rfl)
theorem dX4_numeral_1 : decode cX4_numeral 1 = .ok (.invokevirtual 271, 3) := dk_182 1 15 (dk_at dksX4_numeral_0 1 rfl rfl)
theorem dX4_numeral_4 : decode cX4_numeral 4 = .ok (.ifCond .ne 5, 3) := dk_154 0 5 (dk_at dksX4_numeral_0 4 rfl rfl)
theorem dX4_numeral_7 : decode cX4_numeral 7 = .ok (.iload_n 1, 1) := dk_27 (dk_at dksX4_numeral_0 7 rfl rfl)
theorem dX4_numeral_8 : decode cX4_numeral 8 = .ok (.ireturn, 1) := dk_172 (dk_at dksX4_numeral_0 8 rfl rfl)
theorem dX4_numeral_9 : decode cX4_numeral 9 = .ok (.aload_n 0, 1) := dk_42 (dk_at dksX4_numeral_0 9 rfl rfl)
theorem dX4_numeral_10 : decode cX4_numeral 10 = .ok (.getfield 243, 3) := dk_180 0 243 (dk_at dksX4_numeral_0 10 rfl rfl)
theorem dX4_numeral_13 : decode cX4_numeral 13 = .ok (.iconst 4, 1) := dk_7 (dk_at dksX4_numeral_0 13 rfl rfl)
theorem dX4_numeral_14 : decode cX4_numeral 14 = .ok (.if_icmp .eq 7, 3) := dk_159 0 7 (dk_at dksX4_numeral_0 14 rfl rfl)
theorem dX4_numeral_17 : decode cX4_numeral 17 = .ok (.aload_n 0, 1) := dk_42 (dk_at dksX4_numeral_0 17 rfl rfl)
theorem dX4_numeral_18 : decode cX4_numeral 18 = .ok (.invokevirtual 278, 3) := dk_182 1 22 (dk_at dksX4_numeral_0 18 rfl rfl)
theorem dX4_numeral_21 : decode cX4_numeral 21 = .ok (.aload_n 0, 1) := dk_42 (dk_at dksX4_numeral_0 21 rfl rfl)
theorem dX4_numeral_22 : decode cX4_numeral 22 = .ok (.invokevirtual 271, 3) := dk_182 1 15 (dk_at dksX4_numeral_1 0 rfl rfl)
theorem dX4_numeral_25 : decode cX4_numeral 25 = .ok (.ifCond .eq 28, 3) := dk_153 0 28 (dk_at dksX4_numeral_1 3 rfl rfl)
theorem dX4_numeral_28 : decode cX4_numeral 28 = .ok (.aload_n 0, 1) := dk_42 (dk_at dksX4_numeral_1 6 rfl rfl)
theorem dX4_numeral_29 : decode cX4_numeral 29 = .ok (.getfield 261, 3) := dk_180 1 5 (dk_at dksX4_numeral_1 7 rfl rfl)
theorem dX4_numeral_32 : decode cX4_numeral 32 = .ok (.iload_n 1, 1) := dk_27 (dk_at dksX4_numeral_1 10 rfl rfl)
theorem dX4_numeral_33 : decode cX4_numeral 33 = .ok (.if_icmp .lt 11, 3) := dk_161 0 11 (dk_at dksX4_numeral_1 11 rfl rfl)
theorem dX4_numeral_36 : decode cX4_numeral 36 = .ok (.aload_n 0, 1) := dk_42 (dk_at dksX4_numeral_1 14 rfl rfl)
theorem dX4_numeral_37 : decode cX4_numeral 37 = .ok (.getfield 261, 3) := dk_180 1 5 (dk_at dksX4_numeral_1 15 rfl rfl)
theorem dX4_numeral_40 : decode cX4_numeral 40 = .ok (.iload_n 2, 1) := dk_28 (dk_at dksX4_numeral_1 18 rfl rfl)
theorem dX4_numeral_41 : decode cX4_numeral 41 = .ok (.if_icmp .le 12, 3) := dk_164 0 12 (dk_at dksX4_numeral_1 19 rfl rfl)
theorem dX4_numeral_44 : decode cX4_numeral 44 = .ok (.aload_n 0, 1) := dk_42 (dk_at dksX4_numeral_1 22 rfl rfl)
theorem dX4_numeral_45 : decode cX4_numeral 45 = .ok (.iconst 4, 1) := dk_7 (dk_at dksX4_numeral_1 23 rfl rfl)
theorem dX4_numeral_46 : decode cX4_numeral 46 = .ok (.aload_n 0, 1) := dk_42 (dk_at dksX4_numeral_2 0 rfl rfl)
theorem dX4_numeral_47 : decode cX4_numeral 47 = .ok (.getfield 236, 3) := dk_180 0 236 (dk_at dksX4_numeral_2 1 rfl rfl)
theorem dX4_numeral_50 : decode cX4_numeral 50 = .ok (.invokevirtual 267, 3) := dk_182 1 11 (dk_at dksX4_numeral_2 4 rfl rfl)
theorem dX4_numeral_53 : decode cX4_numeral 53 = .ok (.aload_n 0, 1) := dk_42 (dk_at dksX4_numeral_2 7 rfl rfl)
theorem dX4_numeral_54 : decode cX4_numeral 54 = .ok (.getfield 261, 3) := dk_180 1 5 (dk_at dksX4_numeral_2 8 rfl rfl)
theorem dX4_numeral_57 : decode cX4_numeral 57 = .ok (.istore_n 3, 1) := dk_62 (dk_at dksX4_numeral_2 11 rfl rfl)
theorem dX4_numeral_58 : decode cX4_numeral 58 = .ok (.aload_n 0, 1) := dk_42 (dk_at dksX4_numeral_2 12 rfl rfl)
theorem dX4_numeral_59 : decode cX4_numeral 59 = .ok (.invokevirtual 271, 3) := dk_182 1 15 (dk_at dksX4_numeral_2 13 rfl rfl)
theorem dX4_numeral_62 : decode cX4_numeral 62 = .ok (.ifCond .eq 7, 3) := dk_153 0 7 (dk_at dksX4_numeral_2 16 rfl rfl)
theorem dX4_numeral_65 : decode cX4_numeral 65 = .ok (.aload_n 0, 1) := dk_42 (dk_at dksX4_numeral_2 19 rfl rfl)
theorem dX4_numeral_66 : decode cX4_numeral 66 = .ok (.invokevirtual 275, 3) := dk_182 1 19 (dk_at dksX4_numeral_2 20 rfl rfl)
theorem dX4_numeral_69 : decode cX4_numeral 69 = .ok (.aload_n 0, 1) := dk_42 (dk_at dksX4_numeral_2 23 rfl rfl)
theorem dX4_numeral_70 : decode cX4_numeral 70 = .ok (.invokevirtual 271, 3) := dk_182 1 15 (dk_at dksX4_numeral_3 0 rfl rfl)
theorem dX4_numeral_73 : decode cX4_numeral 73 = .ok (.ifCond .eq 7, 3) := dk_153 0 7 (dk_at dksX4_numeral_3 3 rfl rfl)
theorem dX4_numeral_76 : decode cX4_numeral 76 = .ok (.iload_n 3, 1) := dk_29 (dk_at dksX4_numeral_3 6 rfl rfl)
theorem dX4_numeral_77 : decode cX4_numeral 77 = .ok (.goto 4, 3) := dk_167 0 4 (dk_at dksX4_numeral_3 7 rfl rfl)
theorem dX4_numeral_80 : decode cX4_numeral 80 = .ok (.iload_n 1, 1) := dk_27 (dk_at dksX4_numeral_3 10 rfl rfl)
theorem dX4_numeral_81 : decode cX4_numeral 81 = .ok (.ireturn, 1) := dk_172 (dk_at dksX4_numeral_3 11 rfl rfl)
abbrev cX4_readSum : ByteArray := prog_22_method_26_code
def yX4_readSum : MethodName := ⟨RX4, "readSum", "([I[II)V"⟩
def dkwX4_readSum_4 : List UInt8 := [43, 6, 21, 4, 104, 21, 5, 96, 21, 6, 79, 177]
abbrev dktX4_readSum_4 : List UInt8 := dkwX4_readSum_4 ++ []
def dkwX4_readSum_3 : List UInt8 := [182, 1, 32, 54, 6, 42, 182, 1, 15, 154, 0, 4, 177, 44, 21, 4, 92, 46, 4, 21, 5, 120, 128, 79]
abbrev dktX4_readSum_3 : List UInt8 := dkwX4_readSum_3 ++ dktX4_readSum_4
def dkwX4_readSum_2 : List UInt8 := [160, 0, 12, 42, 6, 42, 180, 0, 236, 182, 1, 11, 42, 21, 5, 182, 1, 93, 54, 5, 42, 3, 29]
abbrev dktX4_readSum_2 : List UInt8 := dkwX4_readSum_2 ++ dktX4_readSum_3
def dkwX4_readSum_1 : List UInt8 := [177, 42, 182, 1, 54, 54, 5, 21, 5, 155, 0, 25, 44, 21, 4, 46, 21, 5, 122, 4, 126, 4]
abbrev dktX4_readSum_1 : List UInt8 := dkwX4_readSum_1 ++ dktX4_readSum_2
def dkwX4_readSum_0 : List UInt8 := [8, 42, 180, 1, 36, 104, 42, 42, 182, 1, 86, 182, 1, 93, 96, 54, 4, 42, 182, 1, 15, 154, 0, 4]
abbrev dktX4_readSum_0 : List UInt8 := dkwX4_readSum_0 ++ dktX4_readSum_1
theorem dksX4_readSum_0 : cX4_readSum.data.toList.drop 0 = dktX4_readSum_0 := by decide +kernel
theorem dksX4_readSum_1 : cX4_readSum.data.toList.drop 24 = dktX4_readSum_1 := dk_seg dksX4_readSum_0 24 rfl rfl
theorem dksX4_readSum_2 : cX4_readSum.data.toList.drop 46 = dktX4_readSum_2 := dk_seg dksX4_readSum_1 22 rfl rfl
theorem dksX4_readSum_3 : cX4_readSum.data.toList.drop 69 = dktX4_readSum_3 := dk_seg dksX4_readSum_2 23 rfl rfl
theorem dksX4_readSum_4 : cX4_readSum.data.toList.drop 93 = dktX4_readSum_4 := dk_seg dksX4_readSum_3 24 rfl rfl
theorem dX4_readSum_0 : decode cX4_readSum 0 = .ok (.iconst 5, 1) := dk_8 (dk_at dksX4_readSum_0 0 rfl rfl)
theorem dX4_readSum_1 : decode cX4_readSum 1 = .ok (.aload_n 0, 1) := dk_42 (dk_at dksX4_readSum_0 1 rfl rfl)
theorem dX4_readSum_2 : decode cX4_readSum 2 = .ok (.getfield 292, 3) := dk_180 1 36 (dk_at dksX4_readSum_0 2 rfl rfl)
theorem dX4_readSum_5 : decode cX4_readSum 5 = .ok (.imul, 1) := dk_104 (dk_at dksX4_readSum_0 5 rfl rfl)
theorem dX4_readSum_6 : decode cX4_readSum 6 = .ok (.aload_n 0, 1) := dk_42 (dk_at dksX4_readSum_0 6 rfl rfl)
theorem dX4_readSum_7 : decode cX4_readSum 7 = .ok (.aload_n 0, 1) := dk_42 (dk_at dksX4_readSum_0 7 rfl rfl)
theorem dX4_readSum_8 : decode cX4_readSum 8 = .ok (.invokevirtual 342, 3) := dk_182 1 86 (dk_at dksX4_readSum_0 8 rfl rfl)
theorem dX4_readSum_11 : decode cX4_readSum 11 = .ok (.invokevirtual 349, 3) := dk_182 1 93 (dk_at dksX4_readSum_0 11 rfl rfl)
theorem dX4_readSum_14 : decode cX4_readSum 14 = .ok (.iadd, 1) := dk_96 (dk_at dksX4_readSum_0 14 rfl rfl)
theorem dX4_readSum_15 : decode cX4_readSum 15 = .ok (.istore 4, 2) := dk_54 4 (dk_at dksX4_readSum_0 15 rfl rfl)
theorem dX4_readSum_17 : decode cX4_readSum 17 = .ok (.aload_n 0, 1) := dk_42 (dk_at dksX4_readSum_0 17 rfl rfl)
theorem dX4_readSum_18 : decode cX4_readSum 18 = .ok (.invokevirtual 271, 3) := dk_182 1 15 (dk_at dksX4_readSum_0 18 rfl rfl)
theorem dX4_readSum_21 : decode cX4_readSum 21 = .ok (.ifCond .ne 4, 3) := dk_154 0 4 (dk_at dksX4_readSum_0 21 rfl rfl)
theorem dX4_readSum_24 : decode cX4_readSum 24 = .ok (.return_, 1) := dk_177 (dk_at dksX4_readSum_1 0 rfl rfl)
theorem dX4_readSum_25 : decode cX4_readSum 25 = .ok (.aload_n 0, 1) := dk_42 (dk_at dksX4_readSum_1 1 rfl rfl)
theorem dX4_readSum_26 : decode cX4_readSum 26 = .ok (.invokevirtual 310, 3) := dk_182 1 54 (dk_at dksX4_readSum_1 2 rfl rfl)
theorem dX4_readSum_29 : decode cX4_readSum 29 = .ok (.istore 5, 2) := dk_54 5 (dk_at dksX4_readSum_1 5 rfl rfl)
theorem dX4_readSum_31 : decode cX4_readSum 31 = .ok (.iload 5, 2) := dk_21 5 (dk_at dksX4_readSum_1 7 rfl rfl)
theorem dX4_readSum_33 : decode cX4_readSum 33 = .ok (.ifCond .lt 25, 3) := dk_155 0 25 (dk_at dksX4_readSum_1 9 rfl rfl)
theorem dX4_readSum_36 : decode cX4_readSum 36 = .ok (.aload_n 2, 1) := dk_44 (dk_at dksX4_readSum_1 12 rfl rfl)
theorem dX4_readSum_37 : decode cX4_readSum 37 = .ok (.iload 4, 2) := dk_21 4 (dk_at dksX4_readSum_1 13 rfl rfl)
theorem dX4_readSum_39 : decode cX4_readSum 39 = .ok (.iaload, 1) := dk_46 (dk_at dksX4_readSum_1 15 rfl rfl)
theorem dX4_readSum_40 : decode cX4_readSum 40 = .ok (.iload 5, 2) := dk_21 5 (dk_at dksX4_readSum_1 16 rfl rfl)
theorem dX4_readSum_42 : decode cX4_readSum 42 = .ok (.ishr, 1) := dk_122 (dk_at dksX4_readSum_1 18 rfl rfl)
theorem dX4_readSum_43 : decode cX4_readSum 43 = .ok (.iconst 1, 1) := dk_4 (dk_at dksX4_readSum_1 19 rfl rfl)
theorem dX4_readSum_44 : decode cX4_readSum 44 = .ok (.iand, 1) := dk_126 (dk_at dksX4_readSum_1 20 rfl rfl)
theorem dX4_readSum_45 : decode cX4_readSum 45 = .ok (.iconst 1, 1) := dk_4 (dk_at dksX4_readSum_1 21 rfl rfl)
theorem dX4_readSum_46 : decode cX4_readSum 46 = .ok (.if_icmp .ne 12, 3) := dk_160 0 12 (dk_at dksX4_readSum_2 0 rfl rfl)
theorem dX4_readSum_49 : decode cX4_readSum 49 = .ok (.aload_n 0, 1) := dk_42 (dk_at dksX4_readSum_2 3 rfl rfl)
theorem dX4_readSum_50 : decode cX4_readSum 50 = .ok (.iconst 3, 1) := dk_6 (dk_at dksX4_readSum_2 4 rfl rfl)
theorem dX4_readSum_51 : decode cX4_readSum 51 = .ok (.aload_n 0, 1) := dk_42 (dk_at dksX4_readSum_2 5 rfl rfl)
theorem dX4_readSum_52 : decode cX4_readSum 52 = .ok (.getfield 236, 3) := dk_180 0 236 (dk_at dksX4_readSum_2 6 rfl rfl)
theorem dX4_readSum_55 : decode cX4_readSum 55 = .ok (.invokevirtual 267, 3) := dk_182 1 11 (dk_at dksX4_readSum_2 9 rfl rfl)
theorem dX4_readSum_58 : decode cX4_readSum 58 = .ok (.aload_n 0, 1) := dk_42 (dk_at dksX4_readSum_2 12 rfl rfl)
theorem dX4_readSum_59 : decode cX4_readSum 59 = .ok (.iload 5, 2) := dk_21 5 (dk_at dksX4_readSum_2 13 rfl rfl)
theorem dX4_readSum_61 : decode cX4_readSum 61 = .ok (.invokevirtual 349, 3) := dk_182 1 93 (dk_at dksX4_readSum_2 15 rfl rfl)
theorem dX4_readSum_64 : decode cX4_readSum 64 = .ok (.istore 5, 2) := dk_54 5 (dk_at dksX4_readSum_2 18 rfl rfl)
theorem dX4_readSum_66 : decode cX4_readSum 66 = .ok (.aload_n 0, 1) := dk_42 (dk_at dksX4_readSum_2 20 rfl rfl)
theorem dX4_readSum_67 : decode cX4_readSum 67 = .ok (.iconst 0, 1) := dk_3 (dk_at dksX4_readSum_2 21 rfl rfl)
theorem dX4_readSum_68 : decode cX4_readSum 68 = .ok (.iload_n 3, 1) := dk_29 (dk_at dksX4_readSum_2 22 rfl rfl)
theorem dX4_readSum_69 : decode cX4_readSum 69 = .ok (.invokevirtual 288, 3) := dk_182 1 32 (dk_at dksX4_readSum_3 0 rfl rfl)
theorem dX4_readSum_72 : decode cX4_readSum 72 = .ok (.istore 6, 2) := dk_54 6 (dk_at dksX4_readSum_3 3 rfl rfl)
theorem dX4_readSum_74 : decode cX4_readSum 74 = .ok (.aload_n 0, 1) := dk_42 (dk_at dksX4_readSum_3 5 rfl rfl)
theorem dX4_readSum_75 : decode cX4_readSum 75 = .ok (.invokevirtual 271, 3) := dk_182 1 15 (dk_at dksX4_readSum_3 6 rfl rfl)
theorem dX4_readSum_78 : decode cX4_readSum 78 = .ok (.ifCond .ne 4, 3) := dk_154 0 4 (dk_at dksX4_readSum_3 9 rfl rfl)
theorem dX4_readSum_81 : decode cX4_readSum 81 = .ok (.return_, 1) := dk_177 (dk_at dksX4_readSum_3 12 rfl rfl)
theorem dX4_readSum_82 : decode cX4_readSum 82 = .ok (.aload_n 2, 1) := dk_44 (dk_at dksX4_readSum_3 13 rfl rfl)
theorem dX4_readSum_83 : decode cX4_readSum 83 = .ok (.iload 4, 2) := dk_21 4 (dk_at dksX4_readSum_3 14 rfl rfl)
theorem dX4_readSum_85 : decode cX4_readSum 85 = .ok (.dup2, 1) := dk_92 (dk_at dksX4_readSum_3 16 rfl rfl)
theorem dX4_readSum_86 : decode cX4_readSum 86 = .ok (.iaload, 1) := dk_46 (dk_at dksX4_readSum_3 17 rfl rfl)
theorem dX4_readSum_87 : decode cX4_readSum 87 = .ok (.iconst 1, 1) := dk_4 (dk_at dksX4_readSum_3 18 rfl rfl)
theorem dX4_readSum_88 : decode cX4_readSum 88 = .ok (.iload 5, 2) := dk_21 5 (dk_at dksX4_readSum_3 19 rfl rfl)
theorem dX4_readSum_90 : decode cX4_readSum 90 = .ok (.ishl, 1) := dk_120 (dk_at dksX4_readSum_3 21 rfl rfl)
theorem dX4_readSum_91 : decode cX4_readSum 91 = .ok (.ior, 1) := dk_128 (dk_at dksX4_readSum_3 22 rfl rfl)
theorem dX4_readSum_92 : decode cX4_readSum 92 = .ok (.iastore, 1) := dk_79 (dk_at dksX4_readSum_3 23 rfl rfl)
theorem dX4_readSum_93 : decode cX4_readSum 93 = .ok (.aload_n 1, 1) := dk_43 (dk_at dksX4_readSum_4 0 rfl rfl)
theorem dX4_readSum_94 : decode cX4_readSum 94 = .ok (.iconst 3, 1) := dk_6 (dk_at dksX4_readSum_4 1 rfl rfl)
theorem dX4_readSum_95 : decode cX4_readSum 95 = .ok (.iload 4, 2) := dk_21 4 (dk_at dksX4_readSum_4 2 rfl rfl)
theorem dX4_readSum_97 : decode cX4_readSum 97 = .ok (.imul, 1) := dk_104 (dk_at dksX4_readSum_4 4 rfl rfl)
theorem dX4_readSum_98 : decode cX4_readSum 98 = .ok (.iload 5, 2) := dk_21 5 (dk_at dksX4_readSum_4 5 rfl rfl)
theorem dX4_readSum_100 : decode cX4_readSum 100 = .ok (.iadd, 1) := dk_96 (dk_at dksX4_readSum_4 7 rfl rfl)
theorem dX4_readSum_101 : decode cX4_readSum 101 = .ok (.iload 6, 2) := dk_21 6 (dk_at dksX4_readSum_4 8 rfl rfl)
theorem dX4_readSum_103 : decode cX4_readSum 103 = .ok (.iastore, 1) := dk_79 (dk_at dksX4_readSum_4 10 rfl rfl)
theorem dX4_readSum_104 : decode cX4_readSum 104 = .ok (.return_, 1) := dk_177 (dk_at dksX4_readSum_4 11 rfl rfl)
abbrev cX4_known : ByteArray := prog_22_method_24_code
def yX4_known : MethodName := ⟨RX4, "known", "(I)I"⟩
def dkwX4_known_2 : List UInt8 := [3, 167, 0, 4, 27, 172]
abbrev dktX4_known_2 : List UInt8 := dkwX4_known_2 ++ []
def dkwX4_known_1 : List UInt8 := [27, 156, 0, 15, 42, 8, 42, 180, 0, 236, 182, 1, 11, 167, 0, 7, 42, 182, 1, 19, 27, 156, 0, 7]
abbrev dktX4_known_1 : List UInt8 := dkwX4_known_1 ++ dktX4_known_2
def dkwX4_known_0 : List UInt8 := [42, 182, 1, 15, 154, 0, 5, 3, 172, 42, 180, 0, 243, 5, 159, 0, 10, 42, 182, 1, 22, 167, 0, 23]
abbrev dktX4_known_0 : List UInt8 := dkwX4_known_0 ++ dktX4_known_1
theorem dksX4_known_0 : cX4_known.data.toList.drop 0 = dktX4_known_0 := by decide +kernel
theorem dksX4_known_1 : cX4_known.data.toList.drop 24 = dktX4_known_1 := dk_seg dksX4_known_0 24 rfl rfl
theorem dksX4_known_2 : cX4_known.data.toList.drop 48 = dktX4_known_2 := dk_seg dksX4_known_1 24 rfl rfl
theorem dX4_known_0 : decode cX4_known 0 = .ok (.aload_n 0, 1) := dk_42 (dk_at dksX4_known_0 0 rfl rfl)
theorem dX4_known_1 : decode cX4_known 1 = .ok (.invokevirtual 271, 3) := dk_182 1 15 (dk_at dksX4_known_0 1 rfl rfl)
theorem dX4_known_4 : decode cX4_known 4 = .ok (.ifCond .ne 5, 3) := dk_154 0 5 (dk_at dksX4_known_0 4 rfl rfl)
theorem dX4_known_7 : decode cX4_known 7 = .ok (.iconst 0, 1) := dk_3 (dk_at dksX4_known_0 7 rfl rfl)
theorem dX4_known_8 : decode cX4_known 8 = .ok (.ireturn, 1) := dk_172 (dk_at dksX4_known_0 8 rfl rfl)
theorem dX4_known_9 : decode cX4_known 9 = .ok (.aload_n 0, 1) := dk_42 (dk_at dksX4_known_0 9 rfl rfl)
theorem dX4_known_10 : decode cX4_known 10 = .ok (.getfield 243, 3) := dk_180 0 243 (dk_at dksX4_known_0 10 rfl rfl)
theorem dX4_known_13 : decode cX4_known 13 = .ok (.iconst 2, 1) := dk_5 (dk_at dksX4_known_0 13 rfl rfl)
theorem dX4_known_14 : decode cX4_known 14 = .ok (.if_icmp .eq 10, 3) := dk_159 0 10 (dk_at dksX4_known_0 14 rfl rfl)
theorem dX4_known_17 : decode cX4_known 17 = .ok (.aload_n 0, 1) := dk_42 (dk_at dksX4_known_0 17 rfl rfl)
theorem dX4_known_18 : decode cX4_known 18 = .ok (.invokevirtual 278, 3) := dk_182 1 22 (dk_at dksX4_known_0 18 rfl rfl)
theorem dX4_known_21 : decode cX4_known 21 = .ok (.goto 23, 3) := dk_167 0 23 (dk_at dksX4_known_0 21 rfl rfl)
theorem dX4_known_24 : decode cX4_known 24 = .ok (.iload_n 1, 1) := dk_27 (dk_at dksX4_known_1 0 rfl rfl)
theorem dX4_known_25 : decode cX4_known 25 = .ok (.ifCond .ge 15, 3) := dk_156 0 15 (dk_at dksX4_known_1 1 rfl rfl)
theorem dX4_known_28 : decode cX4_known 28 = .ok (.aload_n 0, 1) := dk_42 (dk_at dksX4_known_1 4 rfl rfl)
theorem dX4_known_29 : decode cX4_known 29 = .ok (.iconst 5, 1) := dk_8 (dk_at dksX4_known_1 5 rfl rfl)
theorem dX4_known_30 : decode cX4_known 30 = .ok (.aload_n 0, 1) := dk_42 (dk_at dksX4_known_1 6 rfl rfl)
theorem dX4_known_31 : decode cX4_known 31 = .ok (.getfield 236, 3) := dk_180 0 236 (dk_at dksX4_known_1 7 rfl rfl)
theorem dX4_known_34 : decode cX4_known 34 = .ok (.invokevirtual 267, 3) := dk_182 1 11 (dk_at dksX4_known_1 10 rfl rfl)
theorem dX4_known_37 : decode cX4_known 37 = .ok (.goto 7, 3) := dk_167 0 7 (dk_at dksX4_known_1 13 rfl rfl)
theorem dX4_known_40 : decode cX4_known 40 = .ok (.aload_n 0, 1) := dk_42 (dk_at dksX4_known_1 16 rfl rfl)
theorem dX4_known_41 : decode cX4_known 41 = .ok (.invokevirtual 275, 3) := dk_182 1 19 (dk_at dksX4_known_1 17 rfl rfl)
theorem dX4_known_44 : decode cX4_known 44 = .ok (.iload_n 1, 1) := dk_27 (dk_at dksX4_known_1 20 rfl rfl)
theorem dX4_known_45 : decode cX4_known 45 = .ok (.ifCond .ge 7, 3) := dk_156 0 7 (dk_at dksX4_known_1 21 rfl rfl)
theorem dX4_known_48 : decode cX4_known 48 = .ok (.iconst 0, 1) := dk_3 (dk_at dksX4_known_2 0 rfl rfl)
theorem dX4_known_49 : decode cX4_known 49 = .ok (.goto 4, 3) := dk_167 0 4 (dk_at dksX4_known_2 1 rfl rfl)
theorem dX4_known_52 : decode cX4_known 52 = .ok (.iload_n 1, 1) := dk_27 (dk_at dksX4_known_2 4 rfl rfl)
theorem dX4_known_53 : decode cX4_known 53 = .ok (.ireturn, 1) := dk_172 (dk_at dksX4_known_2 5 rfl rfl)
abbrev cX4_readHedge : ByteArray := prog_22_method_27_code
def yX4_readHedge : MethodName := ⟨RX4, "readHedge", "()V"⟩
def dkwX4_readHedge_3 : List UInt8 := [92, 46, 4, 27, 120, 128, 79, 42, 180, 0, 51, 8, 42, 180, 1, 36, 104, 27, 96, 28, 79, 177]
abbrev dktX4_readHedge_3 : List UInt8 := dkwX4_readHedge_3 ++ []
def dkwX4_readHedge_2 : List UInt8 := [42, 3, 16, 10, 182, 1, 32, 61, 42, 182, 1, 15, 154, 0, 4, 177, 42, 180, 0, 45, 42, 180, 1, 36]
abbrev dktX4_readHedge_2 : List UInt8 := dkwX4_readHedge_2 ++ dktX4_readHedge_3
def dkwX4_readHedge_1 : List UInt8 := [46, 27, 122, 4, 126, 4, 160, 0, 12, 42, 6, 42, 180, 0, 236, 182, 1, 11, 42, 27, 182, 1, 93, 60]
abbrev dktX4_readHedge_1 : List UInt8 := dkwX4_readHedge_1 ++ dktX4_readHedge_2
def dkwX4_readHedge_0 : List UInt8 := [42, 182, 1, 86, 60, 42, 182, 1, 15, 153, 0, 33, 27, 155, 0, 29, 42, 180, 0, 45, 42, 180, 1, 36]
abbrev dktX4_readHedge_0 : List UInt8 := dkwX4_readHedge_0 ++ dktX4_readHedge_1
theorem dksX4_readHedge_0 : cX4_readHedge.data.toList.drop 0 = dktX4_readHedge_0 := by decide +kernel
theorem dksX4_readHedge_1 : cX4_readHedge.data.toList.drop 24 = dktX4_readHedge_1 := dk_seg dksX4_readHedge_0 24 rfl rfl
theorem dksX4_readHedge_2 : cX4_readHedge.data.toList.drop 48 = dktX4_readHedge_2 := dk_seg dksX4_readHedge_1 24 rfl rfl
theorem dksX4_readHedge_3 : cX4_readHedge.data.toList.drop 72 = dktX4_readHedge_3 := dk_seg dksX4_readHedge_2 24 rfl rfl
theorem dX4_readHedge_0 : decode cX4_readHedge 0 = .ok (.aload_n 0, 1) := dk_42 (dk_at dksX4_readHedge_0 0 rfl rfl)
theorem dX4_readHedge_1 : decode cX4_readHedge 1 = .ok (.invokevirtual 342, 3) := dk_182 1 86 (dk_at dksX4_readHedge_0 1 rfl rfl)
theorem dX4_readHedge_4 : decode cX4_readHedge 4 = .ok (.istore_n 1, 1) := dk_60 (dk_at dksX4_readHedge_0 4 rfl rfl)
theorem dX4_readHedge_5 : decode cX4_readHedge 5 = .ok (.aload_n 0, 1) := dk_42 (dk_at dksX4_readHedge_0 5 rfl rfl)
theorem dX4_readHedge_6 : decode cX4_readHedge 6 = .ok (.invokevirtual 271, 3) := dk_182 1 15 (dk_at dksX4_readHedge_0 6 rfl rfl)
theorem dX4_readHedge_9 : decode cX4_readHedge 9 = .ok (.ifCond .eq 33, 3) := dk_153 0 33 (dk_at dksX4_readHedge_0 9 rfl rfl)
theorem dX4_readHedge_12 : decode cX4_readHedge 12 = .ok (.iload_n 1, 1) := dk_27 (dk_at dksX4_readHedge_0 12 rfl rfl)
theorem dX4_readHedge_13 : decode cX4_readHedge 13 = .ok (.ifCond .lt 29, 3) := dk_155 0 29 (dk_at dksX4_readHedge_0 13 rfl rfl)
theorem dX4_readHedge_16 : decode cX4_readHedge 16 = .ok (.aload_n 0, 1) := dk_42 (dk_at dksX4_readHedge_0 16 rfl rfl)
theorem dX4_readHedge_17 : decode cX4_readHedge 17 = .ok (.getfield 45, 3) := dk_180 0 45 (dk_at dksX4_readHedge_0 17 rfl rfl)
theorem dX4_readHedge_20 : decode cX4_readHedge 20 = .ok (.aload_n 0, 1) := dk_42 (dk_at dksX4_readHedge_0 20 rfl rfl)
theorem dX4_readHedge_21 : decode cX4_readHedge 21 = .ok (.getfield 292, 3) := dk_180 1 36 (dk_at dksX4_readHedge_0 21 rfl rfl)
theorem dX4_readHedge_24 : decode cX4_readHedge 24 = .ok (.iaload, 1) := dk_46 (dk_at dksX4_readHedge_1 0 rfl rfl)
theorem dX4_readHedge_25 : decode cX4_readHedge 25 = .ok (.iload_n 1, 1) := dk_27 (dk_at dksX4_readHedge_1 1 rfl rfl)
theorem dX4_readHedge_26 : decode cX4_readHedge 26 = .ok (.ishr, 1) := dk_122 (dk_at dksX4_readHedge_1 2 rfl rfl)
theorem dX4_readHedge_27 : decode cX4_readHedge 27 = .ok (.iconst 1, 1) := dk_4 (dk_at dksX4_readHedge_1 3 rfl rfl)
theorem dX4_readHedge_28 : decode cX4_readHedge 28 = .ok (.iand, 1) := dk_126 (dk_at dksX4_readHedge_1 4 rfl rfl)
theorem dX4_readHedge_29 : decode cX4_readHedge 29 = .ok (.iconst 1, 1) := dk_4 (dk_at dksX4_readHedge_1 5 rfl rfl)
theorem dX4_readHedge_30 : decode cX4_readHedge 30 = .ok (.if_icmp .ne 12, 3) := dk_160 0 12 (dk_at dksX4_readHedge_1 6 rfl rfl)
theorem dX4_readHedge_33 : decode cX4_readHedge 33 = .ok (.aload_n 0, 1) := dk_42 (dk_at dksX4_readHedge_1 9 rfl rfl)
theorem dX4_readHedge_34 : decode cX4_readHedge 34 = .ok (.iconst 3, 1) := dk_6 (dk_at dksX4_readHedge_1 10 rfl rfl)
theorem dX4_readHedge_35 : decode cX4_readHedge 35 = .ok (.aload_n 0, 1) := dk_42 (dk_at dksX4_readHedge_1 11 rfl rfl)
theorem dX4_readHedge_36 : decode cX4_readHedge 36 = .ok (.getfield 236, 3) := dk_180 0 236 (dk_at dksX4_readHedge_1 12 rfl rfl)
theorem dX4_readHedge_39 : decode cX4_readHedge 39 = .ok (.invokevirtual 267, 3) := dk_182 1 11 (dk_at dksX4_readHedge_1 15 rfl rfl)
theorem dX4_readHedge_42 : decode cX4_readHedge 42 = .ok (.aload_n 0, 1) := dk_42 (dk_at dksX4_readHedge_1 18 rfl rfl)
theorem dX4_readHedge_43 : decode cX4_readHedge 43 = .ok (.iload_n 1, 1) := dk_27 (dk_at dksX4_readHedge_1 19 rfl rfl)
theorem dX4_readHedge_44 : decode cX4_readHedge 44 = .ok (.invokevirtual 349, 3) := dk_182 1 93 (dk_at dksX4_readHedge_1 20 rfl rfl)
theorem dX4_readHedge_47 : decode cX4_readHedge 47 = .ok (.istore_n 1, 1) := dk_60 (dk_at dksX4_readHedge_1 23 rfl rfl)
theorem dX4_readHedge_48 : decode cX4_readHedge 48 = .ok (.aload_n 0, 1) := dk_42 (dk_at dksX4_readHedge_2 0 rfl rfl)
theorem dX4_readHedge_49 : decode cX4_readHedge 49 = .ok (.iconst 0, 1) := dk_3 (dk_at dksX4_readHedge_2 1 rfl rfl)
theorem dX4_readHedge_50 : decode cX4_readHedge 50 = .ok (.bipush 10, 2) := dk_16 10 (dk_at dksX4_readHedge_2 2 rfl rfl)
theorem dX4_readHedge_52 : decode cX4_readHedge 52 = .ok (.invokevirtual 288, 3) := dk_182 1 32 (dk_at dksX4_readHedge_2 4 rfl rfl)
theorem dX4_readHedge_55 : decode cX4_readHedge 55 = .ok (.istore_n 2, 1) := dk_61 (dk_at dksX4_readHedge_2 7 rfl rfl)
theorem dX4_readHedge_56 : decode cX4_readHedge 56 = .ok (.aload_n 0, 1) := dk_42 (dk_at dksX4_readHedge_2 8 rfl rfl)
theorem dX4_readHedge_57 : decode cX4_readHedge 57 = .ok (.invokevirtual 271, 3) := dk_182 1 15 (dk_at dksX4_readHedge_2 9 rfl rfl)
theorem dX4_readHedge_60 : decode cX4_readHedge 60 = .ok (.ifCond .ne 4, 3) := dk_154 0 4 (dk_at dksX4_readHedge_2 12 rfl rfl)
theorem dX4_readHedge_63 : decode cX4_readHedge 63 = .ok (.return_, 1) := dk_177 (dk_at dksX4_readHedge_2 15 rfl rfl)
theorem dX4_readHedge_64 : decode cX4_readHedge 64 = .ok (.aload_n 0, 1) := dk_42 (dk_at dksX4_readHedge_2 16 rfl rfl)
theorem dX4_readHedge_65 : decode cX4_readHedge 65 = .ok (.getfield 45, 3) := dk_180 0 45 (dk_at dksX4_readHedge_2 17 rfl rfl)
theorem dX4_readHedge_68 : decode cX4_readHedge 68 = .ok (.aload_n 0, 1) := dk_42 (dk_at dksX4_readHedge_2 20 rfl rfl)
theorem dX4_readHedge_69 : decode cX4_readHedge 69 = .ok (.getfield 292, 3) := dk_180 1 36 (dk_at dksX4_readHedge_2 21 rfl rfl)
theorem dX4_readHedge_72 : decode cX4_readHedge 72 = .ok (.dup2, 1) := dk_92 (dk_at dksX4_readHedge_3 0 rfl rfl)
theorem dX4_readHedge_73 : decode cX4_readHedge 73 = .ok (.iaload, 1) := dk_46 (dk_at dksX4_readHedge_3 1 rfl rfl)
theorem dX4_readHedge_74 : decode cX4_readHedge 74 = .ok (.iconst 1, 1) := dk_4 (dk_at dksX4_readHedge_3 2 rfl rfl)
theorem dX4_readHedge_75 : decode cX4_readHedge 75 = .ok (.iload_n 1, 1) := dk_27 (dk_at dksX4_readHedge_3 3 rfl rfl)
theorem dX4_readHedge_76 : decode cX4_readHedge 76 = .ok (.ishl, 1) := dk_120 (dk_at dksX4_readHedge_3 4 rfl rfl)
theorem dX4_readHedge_77 : decode cX4_readHedge 77 = .ok (.ior, 1) := dk_128 (dk_at dksX4_readHedge_3 5 rfl rfl)
theorem dX4_readHedge_78 : decode cX4_readHedge 78 = .ok (.iastore, 1) := dk_79 (dk_at dksX4_readHedge_3 6 rfl rfl)
theorem dX4_readHedge_79 : decode cX4_readHedge 79 = .ok (.aload_n 0, 1) := dk_42 (dk_at dksX4_readHedge_3 7 rfl rfl)
theorem dX4_readHedge_80 : decode cX4_readHedge 80 = .ok (.getfield 51, 3) := dk_180 0 51 (dk_at dksX4_readHedge_3 8 rfl rfl)
theorem dX4_readHedge_83 : decode cX4_readHedge 83 = .ok (.iconst 5, 1) := dk_8 (dk_at dksX4_readHedge_3 11 rfl rfl)
theorem dX4_readHedge_84 : decode cX4_readHedge 84 = .ok (.aload_n 0, 1) := dk_42 (dk_at dksX4_readHedge_3 12 rfl rfl)
theorem dX4_readHedge_85 : decode cX4_readHedge 85 = .ok (.getfield 292, 3) := dk_180 1 36 (dk_at dksX4_readHedge_3 13 rfl rfl)
theorem dX4_readHedge_88 : decode cX4_readHedge 88 = .ok (.imul, 1) := dk_104 (dk_at dksX4_readHedge_3 16 rfl rfl)
theorem dX4_readHedge_89 : decode cX4_readHedge 89 = .ok (.iload_n 1, 1) := dk_27 (dk_at dksX4_readHedge_3 17 rfl rfl)
theorem dX4_readHedge_90 : decode cX4_readHedge 90 = .ok (.iadd, 1) := dk_96 (dk_at dksX4_readHedge_3 18 rfl rfl)
theorem dX4_readHedge_91 : decode cX4_readHedge 91 = .ok (.iload_n 2, 1) := dk_28 (dk_at dksX4_readHedge_3 19 rfl rfl)
theorem dX4_readHedge_92 : decode cX4_readHedge 92 = .ok (.iastore, 1) := dk_79 (dk_at dksX4_readHedge_3 20 rfl rfl)
theorem dX4_readHedge_93 : decode cX4_readHedge 93 = .ok (.return_, 1) := dk_177 (dk_at dksX4_readHedge_3 21 rfl rfl)
abbrev cX4_readRate : ByteArray := prog_22_method_28_code
def yX4_readRate : MethodName := ⟨RX4, "readRate", "()V"⟩
def dkwX4_readRate_6 : List UInt8 := [96, 21, 4, 79, 42, 180, 0, 30, 42, 180, 1, 36, 92, 46, 4, 96, 79, 177]
abbrev dktX4_readRate_6 : List UInt8 := dkwX4_readRate_6 ++ []
def dkwX4_readRate_5 : List UInt8 := [6, 27, 104, 96, 29, 96, 28, 79, 42, 180, 0, 69, 16, 9, 42, 180, 1, 36, 104, 6, 27, 104, 96, 29]
abbrev dktX4_readRate_5 : List UInt8 := dkwX4_readRate_5 ++ dktX4_readRate_6
def dkwX4_readRate_4 : List UInt8 := [182, 1, 32, 54, 4, 42, 182, 1, 15, 154, 0, 4, 177, 42, 180, 0, 66, 16, 9, 42, 180, 1, 36, 104]
abbrev dktX4_readRate_4 : List UInt8 := dkwX4_readRate_4 ++ dktX4_readRate_5
def dkwX4_readRate_3 : List UInt8 := [158, 0, 12, 42, 6, 42, 180, 0, 236, 182, 1, 11, 42, 29, 182, 1, 93, 62, 42, 4, 16, 9]
abbrev dktX4_readRate_3 : List UInt8 := dkwX4_readRate_3 ++ dktX4_readRate_4
def dkwX4_readRate_2 : List UInt8 := [27, 159, 0, 24, 42, 180, 0, 66, 16, 9, 42, 180, 1, 36, 104, 6, 27, 104, 96, 29, 96, 46]
abbrev dktX4_readRate_2 : List UInt8 := dkwX4_readRate_2 ++ dktX4_readRate_3
def dkwX4_readRate_1 : List UInt8 := [182, 1, 25, 182, 1, 28, 42, 182, 1, 15, 154, 0, 4, 177, 42, 182, 1, 54, 62, 29, 155, 0, 38, 29]
abbrev dktX4_readRate_1 : List UInt8 := dkwX4_readRate_1 ++ dktX4_readRate_2
def dkwX4_readRate_0 : List UInt8 := [42, 42, 182, 1, 54, 182, 1, 93, 60, 42, 4, 16, 9, 182, 1, 32, 61, 42, 42, 20, 0, 207]
abbrev dktX4_readRate_0 : List UInt8 := dkwX4_readRate_0 ++ dktX4_readRate_1
theorem dksX4_readRate_0 : cX4_readRate.data.toList.drop 0 = dktX4_readRate_0 := by decide +kernel
theorem dksX4_readRate_1 : cX4_readRate.data.toList.drop 22 = dktX4_readRate_1 := dk_seg dksX4_readRate_0 22 rfl rfl
theorem dksX4_readRate_2 : cX4_readRate.data.toList.drop 46 = dktX4_readRate_2 := dk_seg dksX4_readRate_1 24 rfl rfl
theorem dksX4_readRate_3 : cX4_readRate.data.toList.drop 68 = dktX4_readRate_3 := dk_seg dksX4_readRate_2 22 rfl rfl
theorem dksX4_readRate_4 : cX4_readRate.data.toList.drop 90 = dktX4_readRate_4 := dk_seg dksX4_readRate_3 22 rfl rfl
theorem dksX4_readRate_5 : cX4_readRate.data.toList.drop 114 = dktX4_readRate_5 := dk_seg dksX4_readRate_4 24 rfl rfl
theorem dksX4_readRate_6 : cX4_readRate.data.toList.drop 138 = dktX4_readRate_6 := dk_seg dksX4_readRate_5 24 rfl rfl
theorem dX4_readRate_0 : decode cX4_readRate 0 = .ok (.aload_n 0, 1) := dk_42 (dk_at dksX4_readRate_0 0 rfl rfl)
theorem dX4_readRate_1 : decode cX4_readRate 1 = .ok (.aload_n 0, 1) := dk_42 (dk_at dksX4_readRate_0 1 rfl rfl)
theorem dX4_readRate_2 : decode cX4_readRate 2 = .ok (.invokevirtual 310, 3) := dk_182 1 54 (dk_at dksX4_readRate_0 2 rfl rfl)
theorem dX4_readRate_5 : decode cX4_readRate 5 = .ok (.invokevirtual 349, 3) := dk_182 1 93 (dk_at dksX4_readRate_0 5 rfl rfl)
theorem dX4_readRate_8 : decode cX4_readRate 8 = .ok (.istore_n 1, 1) := dk_60 (dk_at dksX4_readRate_0 8 rfl rfl)
theorem dX4_readRate_9 : decode cX4_readRate 9 = .ok (.aload_n 0, 1) := dk_42 (dk_at dksX4_readRate_0 9 rfl rfl)
theorem dX4_readRate_10 : decode cX4_readRate 10 = .ok (.iconst 1, 1) := dk_4 (dk_at dksX4_readRate_0 10 rfl rfl)
theorem dX4_readRate_11 : decode cX4_readRate 11 = .ok (.bipush 9, 2) := dk_16 9 (dk_at dksX4_readRate_0 11 rfl rfl)
theorem dX4_readRate_13 : decode cX4_readRate 13 = .ok (.invokevirtual 288, 3) := dk_182 1 32 (dk_at dksX4_readRate_0 13 rfl rfl)
theorem dX4_readRate_16 : decode cX4_readRate 16 = .ok (.istore_n 2, 1) := dk_61 (dk_at dksX4_readRate_0 16 rfl rfl)
theorem dX4_readRate_17 : decode cX4_readRate 17 = .ok (.aload_n 0, 1) := dk_42 (dk_at dksX4_readRate_0 17 rfl rfl)
theorem dX4_readRate_18 : decode cX4_readRate 18 = .ok (.aload_n 0, 1) := dk_42 (dk_at dksX4_readRate_0 18 rfl rfl)
theorem dX4_readRate_19 : decode cX4_readRate 19 = .ok (.ldc2_w 207, 3) := dk_20 0 207 (dk_at dksX4_readRate_0 19 rfl rfl)
theorem dX4_readRate_22 : decode cX4_readRate 22 = .ok (.invokevirtual 281, 3) := dk_182 1 25 (dk_at dksX4_readRate_1 0 rfl rfl)
theorem dX4_readRate_25 : decode cX4_readRate 25 = .ok (.invokevirtual 284, 3) := dk_182 1 28 (dk_at dksX4_readRate_1 3 rfl rfl)
theorem dX4_readRate_28 : decode cX4_readRate 28 = .ok (.aload_n 0, 1) := dk_42 (dk_at dksX4_readRate_1 6 rfl rfl)
theorem dX4_readRate_29 : decode cX4_readRate 29 = .ok (.invokevirtual 271, 3) := dk_182 1 15 (dk_at dksX4_readRate_1 7 rfl rfl)
theorem dX4_readRate_32 : decode cX4_readRate 32 = .ok (.ifCond .ne 4, 3) := dk_154 0 4 (dk_at dksX4_readRate_1 10 rfl rfl)
theorem dX4_readRate_35 : decode cX4_readRate 35 = .ok (.return_, 1) := dk_177 (dk_at dksX4_readRate_1 13 rfl rfl)
theorem dX4_readRate_36 : decode cX4_readRate 36 = .ok (.aload_n 0, 1) := dk_42 (dk_at dksX4_readRate_1 14 rfl rfl)
theorem dX4_readRate_37 : decode cX4_readRate 37 = .ok (.invokevirtual 310, 3) := dk_182 1 54 (dk_at dksX4_readRate_1 15 rfl rfl)
theorem dX4_readRate_40 : decode cX4_readRate 40 = .ok (.istore_n 3, 1) := dk_62 (dk_at dksX4_readRate_1 18 rfl rfl)
theorem dX4_readRate_41 : decode cX4_readRate 41 = .ok (.iload_n 3, 1) := dk_29 (dk_at dksX4_readRate_1 19 rfl rfl)
theorem dX4_readRate_42 : decode cX4_readRate 42 = .ok (.ifCond .lt 38, 3) := dk_155 0 38 (dk_at dksX4_readRate_1 20 rfl rfl)
theorem dX4_readRate_45 : decode cX4_readRate 45 = .ok (.iload_n 3, 1) := dk_29 (dk_at dksX4_readRate_1 23 rfl rfl)
theorem dX4_readRate_46 : decode cX4_readRate 46 = .ok (.iload_n 1, 1) := dk_27 (dk_at dksX4_readRate_2 0 rfl rfl)
theorem dX4_readRate_47 : decode cX4_readRate 47 = .ok (.if_icmp .eq 24, 3) := dk_159 0 24 (dk_at dksX4_readRate_2 1 rfl rfl)
theorem dX4_readRate_50 : decode cX4_readRate 50 = .ok (.aload_n 0, 1) := dk_42 (dk_at dksX4_readRate_2 4 rfl rfl)
theorem dX4_readRate_51 : decode cX4_readRate 51 = .ok (.getfield 66, 3) := dk_180 0 66 (dk_at dksX4_readRate_2 5 rfl rfl)
theorem dX4_readRate_54 : decode cX4_readRate 54 = .ok (.bipush 9, 2) := dk_16 9 (dk_at dksX4_readRate_2 8 rfl rfl)
theorem dX4_readRate_56 : decode cX4_readRate 56 = .ok (.aload_n 0, 1) := dk_42 (dk_at dksX4_readRate_2 10 rfl rfl)
theorem dX4_readRate_57 : decode cX4_readRate 57 = .ok (.getfield 292, 3) := dk_180 1 36 (dk_at dksX4_readRate_2 11 rfl rfl)
theorem dX4_readRate_60 : decode cX4_readRate 60 = .ok (.imul, 1) := dk_104 (dk_at dksX4_readRate_2 14 rfl rfl)
theorem dX4_readRate_61 : decode cX4_readRate 61 = .ok (.iconst 3, 1) := dk_6 (dk_at dksX4_readRate_2 15 rfl rfl)
theorem dX4_readRate_62 : decode cX4_readRate 62 = .ok (.iload_n 1, 1) := dk_27 (dk_at dksX4_readRate_2 16 rfl rfl)
theorem dX4_readRate_63 : decode cX4_readRate 63 = .ok (.imul, 1) := dk_104 (dk_at dksX4_readRate_2 17 rfl rfl)
theorem dX4_readRate_64 : decode cX4_readRate 64 = .ok (.iadd, 1) := dk_96 (dk_at dksX4_readRate_2 18 rfl rfl)
theorem dX4_readRate_65 : decode cX4_readRate 65 = .ok (.iload_n 3, 1) := dk_29 (dk_at dksX4_readRate_2 19 rfl rfl)
theorem dX4_readRate_66 : decode cX4_readRate 66 = .ok (.iadd, 1) := dk_96 (dk_at dksX4_readRate_2 20 rfl rfl)
theorem dX4_readRate_67 : decode cX4_readRate 67 = .ok (.iaload, 1) := dk_46 (dk_at dksX4_readRate_2 21 rfl rfl)
theorem dX4_readRate_68 : decode cX4_readRate 68 = .ok (.ifCond .le 12, 3) := dk_158 0 12 (dk_at dksX4_readRate_3 0 rfl rfl)
theorem dX4_readRate_71 : decode cX4_readRate 71 = .ok (.aload_n 0, 1) := dk_42 (dk_at dksX4_readRate_3 3 rfl rfl)
theorem dX4_readRate_72 : decode cX4_readRate 72 = .ok (.iconst 3, 1) := dk_6 (dk_at dksX4_readRate_3 4 rfl rfl)
theorem dX4_readRate_73 : decode cX4_readRate 73 = .ok (.aload_n 0, 1) := dk_42 (dk_at dksX4_readRate_3 5 rfl rfl)
theorem dX4_readRate_74 : decode cX4_readRate 74 = .ok (.getfield 236, 3) := dk_180 0 236 (dk_at dksX4_readRate_3 6 rfl rfl)
theorem dX4_readRate_77 : decode cX4_readRate 77 = .ok (.invokevirtual 267, 3) := dk_182 1 11 (dk_at dksX4_readRate_3 9 rfl rfl)
theorem dX4_readRate_80 : decode cX4_readRate 80 = .ok (.aload_n 0, 1) := dk_42 (dk_at dksX4_readRate_3 12 rfl rfl)
theorem dX4_readRate_81 : decode cX4_readRate 81 = .ok (.iload_n 3, 1) := dk_29 (dk_at dksX4_readRate_3 13 rfl rfl)
theorem dX4_readRate_82 : decode cX4_readRate 82 = .ok (.invokevirtual 349, 3) := dk_182 1 93 (dk_at dksX4_readRate_3 14 rfl rfl)
theorem dX4_readRate_85 : decode cX4_readRate 85 = .ok (.istore_n 3, 1) := dk_62 (dk_at dksX4_readRate_3 17 rfl rfl)
theorem dX4_readRate_86 : decode cX4_readRate 86 = .ok (.aload_n 0, 1) := dk_42 (dk_at dksX4_readRate_3 18 rfl rfl)
theorem dX4_readRate_87 : decode cX4_readRate 87 = .ok (.iconst 1, 1) := dk_4 (dk_at dksX4_readRate_3 19 rfl rfl)
theorem dX4_readRate_88 : decode cX4_readRate 88 = .ok (.bipush 9, 2) := dk_16 9 (dk_at dksX4_readRate_3 20 rfl rfl)
theorem dX4_readRate_90 : decode cX4_readRate 90 = .ok (.invokevirtual 288, 3) := dk_182 1 32 (dk_at dksX4_readRate_4 0 rfl rfl)
theorem dX4_readRate_93 : decode cX4_readRate 93 = .ok (.istore 4, 2) := dk_54 4 (dk_at dksX4_readRate_4 3 rfl rfl)
theorem dX4_readRate_95 : decode cX4_readRate 95 = .ok (.aload_n 0, 1) := dk_42 (dk_at dksX4_readRate_4 5 rfl rfl)
theorem dX4_readRate_96 : decode cX4_readRate 96 = .ok (.invokevirtual 271, 3) := dk_182 1 15 (dk_at dksX4_readRate_4 6 rfl rfl)
theorem dX4_readRate_99 : decode cX4_readRate 99 = .ok (.ifCond .ne 4, 3) := dk_154 0 4 (dk_at dksX4_readRate_4 9 rfl rfl)
theorem dX4_readRate_102 : decode cX4_readRate 102 = .ok (.return_, 1) := dk_177 (dk_at dksX4_readRate_4 12 rfl rfl)
theorem dX4_readRate_103 : decode cX4_readRate 103 = .ok (.aload_n 0, 1) := dk_42 (dk_at dksX4_readRate_4 13 rfl rfl)
theorem dX4_readRate_104 : decode cX4_readRate 104 = .ok (.getfield 66, 3) := dk_180 0 66 (dk_at dksX4_readRate_4 14 rfl rfl)
theorem dX4_readRate_107 : decode cX4_readRate 107 = .ok (.bipush 9, 2) := dk_16 9 (dk_at dksX4_readRate_4 17 rfl rfl)
theorem dX4_readRate_109 : decode cX4_readRate 109 = .ok (.aload_n 0, 1) := dk_42 (dk_at dksX4_readRate_4 19 rfl rfl)
theorem dX4_readRate_110 : decode cX4_readRate 110 = .ok (.getfield 292, 3) := dk_180 1 36 (dk_at dksX4_readRate_4 20 rfl rfl)
theorem dX4_readRate_113 : decode cX4_readRate 113 = .ok (.imul, 1) := dk_104 (dk_at dksX4_readRate_4 23 rfl rfl)
theorem dX4_readRate_114 : decode cX4_readRate 114 = .ok (.iconst 3, 1) := dk_6 (dk_at dksX4_readRate_5 0 rfl rfl)
theorem dX4_readRate_115 : decode cX4_readRate 115 = .ok (.iload_n 1, 1) := dk_27 (dk_at dksX4_readRate_5 1 rfl rfl)
theorem dX4_readRate_116 : decode cX4_readRate 116 = .ok (.imul, 1) := dk_104 (dk_at dksX4_readRate_5 2 rfl rfl)
theorem dX4_readRate_117 : decode cX4_readRate 117 = .ok (.iadd, 1) := dk_96 (dk_at dksX4_readRate_5 3 rfl rfl)
theorem dX4_readRate_118 : decode cX4_readRate 118 = .ok (.iload_n 3, 1) := dk_29 (dk_at dksX4_readRate_5 4 rfl rfl)
theorem dX4_readRate_119 : decode cX4_readRate 119 = .ok (.iadd, 1) := dk_96 (dk_at dksX4_readRate_5 5 rfl rfl)
theorem dX4_readRate_120 : decode cX4_readRate 120 = .ok (.iload_n 2, 1) := dk_28 (dk_at dksX4_readRate_5 6 rfl rfl)
theorem dX4_readRate_121 : decode cX4_readRate 121 = .ok (.iastore, 1) := dk_79 (dk_at dksX4_readRate_5 7 rfl rfl)
theorem dX4_readRate_122 : decode cX4_readRate 122 = .ok (.aload_n 0, 1) := dk_42 (dk_at dksX4_readRate_5 8 rfl rfl)
theorem dX4_readRate_123 : decode cX4_readRate 123 = .ok (.getfield 69, 3) := dk_180 0 69 (dk_at dksX4_readRate_5 9 rfl rfl)
theorem dX4_readRate_126 : decode cX4_readRate 126 = .ok (.bipush 9, 2) := dk_16 9 (dk_at dksX4_readRate_5 12 rfl rfl)
theorem dX4_readRate_128 : decode cX4_readRate 128 = .ok (.aload_n 0, 1) := dk_42 (dk_at dksX4_readRate_5 14 rfl rfl)
theorem dX4_readRate_129 : decode cX4_readRate 129 = .ok (.getfield 292, 3) := dk_180 1 36 (dk_at dksX4_readRate_5 15 rfl rfl)
theorem dX4_readRate_132 : decode cX4_readRate 132 = .ok (.imul, 1) := dk_104 (dk_at dksX4_readRate_5 18 rfl rfl)
theorem dX4_readRate_133 : decode cX4_readRate 133 = .ok (.iconst 3, 1) := dk_6 (dk_at dksX4_readRate_5 19 rfl rfl)
theorem dX4_readRate_134 : decode cX4_readRate 134 = .ok (.iload_n 1, 1) := dk_27 (dk_at dksX4_readRate_5 20 rfl rfl)
theorem dX4_readRate_135 : decode cX4_readRate 135 = .ok (.imul, 1) := dk_104 (dk_at dksX4_readRate_5 21 rfl rfl)
theorem dX4_readRate_136 : decode cX4_readRate 136 = .ok (.iadd, 1) := dk_96 (dk_at dksX4_readRate_5 22 rfl rfl)
theorem dX4_readRate_137 : decode cX4_readRate 137 = .ok (.iload_n 3, 1) := dk_29 (dk_at dksX4_readRate_5 23 rfl rfl)
theorem dX4_readRate_138 : decode cX4_readRate 138 = .ok (.iadd, 1) := dk_96 (dk_at dksX4_readRate_6 0 rfl rfl)
theorem dX4_readRate_139 : decode cX4_readRate 139 = .ok (.iload 4, 2) := dk_21 4 (dk_at dksX4_readRate_6 1 rfl rfl)
theorem dX4_readRate_141 : decode cX4_readRate 141 = .ok (.iastore, 1) := dk_79 (dk_at dksX4_readRate_6 3 rfl rfl)
theorem dX4_readRate_142 : decode cX4_readRate 142 = .ok (.aload_n 0, 1) := dk_42 (dk_at dksX4_readRate_6 4 rfl rfl)
theorem dX4_readRate_143 : decode cX4_readRate 143 = .ok (.getfield 30, 3) := dk_180 0 30 (dk_at dksX4_readRate_6 5 rfl rfl)
theorem dX4_readRate_146 : decode cX4_readRate 146 = .ok (.aload_n 0, 1) := dk_42 (dk_at dksX4_readRate_6 8 rfl rfl)
theorem dX4_readRate_147 : decode cX4_readRate 147 = .ok (.getfield 292, 3) := dk_180 1 36 (dk_at dksX4_readRate_6 9 rfl rfl)
theorem dX4_readRate_150 : decode cX4_readRate 150 = .ok (.dup2, 1) := dk_92 (dk_at dksX4_readRate_6 12 rfl rfl)
theorem dX4_readRate_151 : decode cX4_readRate 151 = .ok (.iaload, 1) := dk_46 (dk_at dksX4_readRate_6 13 rfl rfl)
theorem dX4_readRate_152 : decode cX4_readRate 152 = .ok (.iconst 1, 1) := dk_4 (dk_at dksX4_readRate_6 14 rfl rfl)
theorem dX4_readRate_153 : decode cX4_readRate 153 = .ok (.iadd, 1) := dk_96 (dk_at dksX4_readRate_6 15 rfl rfl)
theorem dX4_readRate_154 : decode cX4_readRate 154 = .ok (.iastore, 1) := dk_79 (dk_at dksX4_readRate_6 16 rfl rfl)
theorem dX4_readRate_155 : decode cX4_readRate 155 = .ok (.return_, 1) := dk_177 (dk_at dksX4_readRate_6 17 rfl rfl)
abbrev cX4_readRule : ByteArray := prog_22_method_29_code
def yX4_readRule : MethodName := ⟨RX4, "readRule", "(I)V"⟩
def dkwX4_readRule_1 : List UInt8 := [42, 180, 0, 78, 42, 180, 1, 36, 27, 96, 42, 180, 1, 39, 79, 177]
abbrev dktX4_readRule_1 : List UInt8 := dkwX4_readRule_1 ++ []
def dkwX4_readRule_0 : List UInt8 := [42, 3, 181, 1, 96, 42, 180, 0, 75, 42, 180, 1, 36, 27, 96, 42, 180, 1, 39, 79, 42, 182, 1, 99]
abbrev dktX4_readRule_0 : List UInt8 := dkwX4_readRule_0 ++ dktX4_readRule_1
theorem dksX4_readRule_0 : cX4_readRule.data.toList.drop 0 = dktX4_readRule_0 := by decide +kernel
theorem dksX4_readRule_1 : cX4_readRule.data.toList.drop 24 = dktX4_readRule_1 := dk_seg dksX4_readRule_0 24 rfl rfl
theorem dX4_readRule_0 : decode cX4_readRule 0 = .ok (.aload_n 0, 1) := dk_42 (dk_at dksX4_readRule_0 0 rfl rfl)
theorem dX4_readRule_1 : decode cX4_readRule 1 = .ok (.iconst 0, 1) := dk_3 (dk_at dksX4_readRule_0 1 rfl rfl)
theorem dX4_readRule_2 : decode cX4_readRule 2 = .ok (.putfield 352, 3) := dk_181 1 96 (dk_at dksX4_readRule_0 2 rfl rfl)
theorem dX4_readRule_5 : decode cX4_readRule 5 = .ok (.aload_n 0, 1) := dk_42 (dk_at dksX4_readRule_0 5 rfl rfl)
theorem dX4_readRule_6 : decode cX4_readRule 6 = .ok (.getfield 75, 3) := dk_180 0 75 (dk_at dksX4_readRule_0 6 rfl rfl)
theorem dX4_readRule_9 : decode cX4_readRule 9 = .ok (.aload_n 0, 1) := dk_42 (dk_at dksX4_readRule_0 9 rfl rfl)
theorem dX4_readRule_10 : decode cX4_readRule 10 = .ok (.getfield 292, 3) := dk_180 1 36 (dk_at dksX4_readRule_0 10 rfl rfl)
theorem dX4_readRule_13 : decode cX4_readRule 13 = .ok (.iload_n 1, 1) := dk_27 (dk_at dksX4_readRule_0 13 rfl rfl)
theorem dX4_readRule_14 : decode cX4_readRule 14 = .ok (.iadd, 1) := dk_96 (dk_at dksX4_readRule_0 14 rfl rfl)
theorem dX4_readRule_15 : decode cX4_readRule 15 = .ok (.aload_n 0, 1) := dk_42 (dk_at dksX4_readRule_0 15 rfl rfl)
theorem dX4_readRule_16 : decode cX4_readRule 16 = .ok (.getfield 295, 3) := dk_180 1 39 (dk_at dksX4_readRule_0 16 rfl rfl)
theorem dX4_readRule_19 : decode cX4_readRule 19 = .ok (.iastore, 1) := dk_79 (dk_at dksX4_readRule_0 19 rfl rfl)
theorem dX4_readRule_20 : decode cX4_readRule 20 = .ok (.aload_n 0, 1) := dk_42 (dk_at dksX4_readRule_0 20 rfl rfl)
theorem dX4_readRule_21 : decode cX4_readRule 21 = .ok (.invokevirtual 355, 3) := dk_182 1 99 (dk_at dksX4_readRule_0 21 rfl rfl)
theorem dX4_readRule_24 : decode cX4_readRule 24 = .ok (.aload_n 0, 1) := dk_42 (dk_at dksX4_readRule_1 0 rfl rfl)
theorem dX4_readRule_25 : decode cX4_readRule 25 = .ok (.getfield 78, 3) := dk_180 0 78 (dk_at dksX4_readRule_1 1 rfl rfl)
theorem dX4_readRule_28 : decode cX4_readRule 28 = .ok (.aload_n 0, 1) := dk_42 (dk_at dksX4_readRule_1 4 rfl rfl)
theorem dX4_readRule_29 : decode cX4_readRule 29 = .ok (.getfield 292, 3) := dk_180 1 36 (dk_at dksX4_readRule_1 5 rfl rfl)
theorem dX4_readRule_32 : decode cX4_readRule 32 = .ok (.iload_n 1, 1) := dk_27 (dk_at dksX4_readRule_1 8 rfl rfl)
theorem dX4_readRule_33 : decode cX4_readRule 33 = .ok (.iadd, 1) := dk_96 (dk_at dksX4_readRule_1 9 rfl rfl)
theorem dX4_readRule_34 : decode cX4_readRule 34 = .ok (.aload_n 0, 1) := dk_42 (dk_at dksX4_readRule_1 10 rfl rfl)
theorem dX4_readRule_35 : decode cX4_readRule 35 = .ok (.getfield 295, 3) := dk_180 1 39 (dk_at dksX4_readRule_1 11 rfl rfl)
theorem dX4_readRule_38 : decode cX4_readRule 38 = .ok (.iastore, 1) := dk_79 (dk_at dksX4_readRule_1 14 rfl rfl)
theorem dX4_readRule_39 : decode cX4_readRule 39 = .ok (.return_, 1) := dk_177 (dk_at dksX4_readRule_1 15 rfl rfl)
abbrev cX4_e : ByteArray := prog_22_method_32_code
def yX4_e : MethodName := ⟨RX4, "e", "()V"⟩
def dkwX4_e_2 : List UInt8 := [182, 1, 114, 60, 167, 255, 226, 177]
abbrev dktX4_e_2 : List UInt8 := dkwX4_e_2 ++ []
def dkwX4_e_1 : List UInt8 := [153, 0, 29, 42, 180, 1, 102, 158, 0, 22, 27, 153, 0, 10, 42, 182, 1, 111, 167, 0, 7, 42]
abbrev dktX4_e_1 : List UInt8 := dkwX4_e_1 ++ dktX4_e_2
def dkwX4_e_0 : List UInt8 := [42, 3, 181, 1, 102, 42, 3, 181, 1, 105, 42, 16, 8, 3, 182, 1, 108, 4, 60, 42, 182, 1, 15]
abbrev dktX4_e_0 : List UInt8 := dkwX4_e_0 ++ dktX4_e_1
theorem dksX4_e_0 : cX4_e.data.toList.drop 0 = dktX4_e_0 := by decide +kernel
theorem dksX4_e_1 : cX4_e.data.toList.drop 23 = dktX4_e_1 := dk_seg dksX4_e_0 23 rfl rfl
theorem dksX4_e_2 : cX4_e.data.toList.drop 45 = dktX4_e_2 := dk_seg dksX4_e_1 22 rfl rfl
theorem dX4_e_0 : decode cX4_e 0 = .ok (.aload_n 0, 1) := dk_42 (dk_at dksX4_e_0 0 rfl rfl)
theorem dX4_e_1 : decode cX4_e 1 = .ok (.iconst 0, 1) := dk_3 (dk_at dksX4_e_0 1 rfl rfl)
theorem dX4_e_2 : decode cX4_e 2 = .ok (.putfield 358, 3) := dk_181 1 102 (dk_at dksX4_e_0 2 rfl rfl)
theorem dX4_e_5 : decode cX4_e 5 = .ok (.aload_n 0, 1) := dk_42 (dk_at dksX4_e_0 5 rfl rfl)
theorem dX4_e_6 : decode cX4_e 6 = .ok (.iconst 0, 1) := dk_3 (dk_at dksX4_e_0 6 rfl rfl)
theorem dX4_e_7 : decode cX4_e 7 = .ok (.putfield 361, 3) := dk_181 1 105 (dk_at dksX4_e_0 7 rfl rfl)
theorem dX4_e_10 : decode cX4_e 10 = .ok (.aload_n 0, 1) := dk_42 (dk_at dksX4_e_0 10 rfl rfl)
theorem dX4_e_11 : decode cX4_e 11 = .ok (.bipush 8, 2) := dk_16 8 (dk_at dksX4_e_0 11 rfl rfl)
theorem dX4_e_13 : decode cX4_e 13 = .ok (.iconst 0, 1) := dk_3 (dk_at dksX4_e_0 13 rfl rfl)
theorem dX4_e_14 : decode cX4_e 14 = .ok (.invokevirtual 364, 3) := dk_182 1 108 (dk_at dksX4_e_0 14 rfl rfl)
theorem dX4_e_17 : decode cX4_e 17 = .ok (.iconst 1, 1) := dk_4 (dk_at dksX4_e_0 17 rfl rfl)
theorem dX4_e_18 : decode cX4_e 18 = .ok (.istore_n 1, 1) := dk_60 (dk_at dksX4_e_0 18 rfl rfl)
theorem dX4_e_19 : decode cX4_e 19 = .ok (.aload_n 0, 1) := dk_42 (dk_at dksX4_e_0 19 rfl rfl)
theorem dX4_e_20 : decode cX4_e 20 = .ok (.invokevirtual 271, 3) := dk_182 1 15 (dk_at dksX4_e_0 20 rfl rfl)
theorem dX4_e_23 : decode cX4_e 23 = .ok (.ifCond .eq 29, 3) := dk_153 0 29 (dk_at dksX4_e_1 0 rfl rfl)
theorem dX4_e_26 : decode cX4_e 26 = .ok (.aload_n 0, 1) := dk_42 (dk_at dksX4_e_1 3 rfl rfl)
theorem dX4_e_27 : decode cX4_e 27 = .ok (.getfield 358, 3) := dk_180 1 102 (dk_at dksX4_e_1 4 rfl rfl)
theorem dX4_e_30 : decode cX4_e 30 = .ok (.ifCond .le 22, 3) := dk_158 0 22 (dk_at dksX4_e_1 7 rfl rfl)
theorem dX4_e_33 : decode cX4_e 33 = .ok (.iload_n 1, 1) := dk_27 (dk_at dksX4_e_1 10 rfl rfl)
theorem dX4_e_34 : decode cX4_e 34 = .ok (.ifCond .eq 10, 3) := dk_153 0 10 (dk_at dksX4_e_1 11 rfl rfl)
theorem dX4_e_37 : decode cX4_e 37 = .ok (.aload_n 0, 1) := dk_42 (dk_at dksX4_e_1 14 rfl rfl)
theorem dX4_e_38 : decode cX4_e 38 = .ok (.invokevirtual 367, 3) := dk_182 1 111 (dk_at dksX4_e_1 15 rfl rfl)
theorem dX4_e_41 : decode cX4_e 41 = .ok (.goto 7, 3) := dk_167 0 7 (dk_at dksX4_e_1 18 rfl rfl)
theorem dX4_e_44 : decode cX4_e 44 = .ok (.aload_n 0, 1) := dk_42 (dk_at dksX4_e_1 21 rfl rfl)
theorem dX4_e_45 : decode cX4_e 45 = .ok (.invokevirtual 370, 3) := dk_182 1 114 (dk_at dksX4_e_2 0 rfl rfl)
theorem dX4_e_48 : decode cX4_e 48 = .ok (.istore_n 1, 1) := dk_60 (dk_at dksX4_e_2 3 rfl rfl)
theorem dX4_e_49 : decode cX4_e 49 = .ok (.goto (-30), 3) := dk_167 255 226 (dk_at dksX4_e_2 4 rfl rfl)
theorem dX4_e_52 : decode cX4_e 52 = .ok (.return_, 1) := dk_177 (dk_at dksX4_e_2 7 rfl rfl)
abbrev cX4_pushE : ByteArray := prog_22_method_31_code
def yX4_pushE : MethodName := ⟨RX4, "pushE", "(II)V"⟩
def dkwX4_pushE_1 : List UInt8 := [180, 1, 102, 4, 96, 181, 1, 102, 177]
abbrev dktX4_pushE_1 : List UInt8 := dkwX4_pushE_1 ++ []
def dkwX4_pushE_0 : List UInt8 := [42, 180, 0, 104, 42, 180, 1, 102, 27, 79, 42, 180, 0, 107, 42, 180, 1, 102, 28, 79, 42, 89]
abbrev dktX4_pushE_0 : List UInt8 := dkwX4_pushE_0 ++ dktX4_pushE_1
theorem dksX4_pushE_0 : cX4_pushE.data.toList.drop 0 = dktX4_pushE_0 := by decide +kernel
theorem dksX4_pushE_1 : cX4_pushE.data.toList.drop 22 = dktX4_pushE_1 := dk_seg dksX4_pushE_0 22 rfl rfl
theorem dX4_pushE_0 : decode cX4_pushE 0 = .ok (.aload_n 0, 1) := dk_42 (dk_at dksX4_pushE_0 0 rfl rfl)
theorem dX4_pushE_1 : decode cX4_pushE 1 = .ok (.getfield 104, 3) := dk_180 0 104 (dk_at dksX4_pushE_0 1 rfl rfl)
theorem dX4_pushE_4 : decode cX4_pushE 4 = .ok (.aload_n 0, 1) := dk_42 (dk_at dksX4_pushE_0 4 rfl rfl)
theorem dX4_pushE_5 : decode cX4_pushE 5 = .ok (.getfield 358, 3) := dk_180 1 102 (dk_at dksX4_pushE_0 5 rfl rfl)
theorem dX4_pushE_8 : decode cX4_pushE 8 = .ok (.iload_n 1, 1) := dk_27 (dk_at dksX4_pushE_0 8 rfl rfl)
theorem dX4_pushE_9 : decode cX4_pushE 9 = .ok (.iastore, 1) := dk_79 (dk_at dksX4_pushE_0 9 rfl rfl)
theorem dX4_pushE_10 : decode cX4_pushE 10 = .ok (.aload_n 0, 1) := dk_42 (dk_at dksX4_pushE_0 10 rfl rfl)
theorem dX4_pushE_11 : decode cX4_pushE 11 = .ok (.getfield 107, 3) := dk_180 0 107 (dk_at dksX4_pushE_0 11 rfl rfl)
theorem dX4_pushE_14 : decode cX4_pushE 14 = .ok (.aload_n 0, 1) := dk_42 (dk_at dksX4_pushE_0 14 rfl rfl)
theorem dX4_pushE_15 : decode cX4_pushE 15 = .ok (.getfield 358, 3) := dk_180 1 102 (dk_at dksX4_pushE_0 15 rfl rfl)
theorem dX4_pushE_18 : decode cX4_pushE 18 = .ok (.iload_n 2, 1) := dk_28 (dk_at dksX4_pushE_0 18 rfl rfl)
theorem dX4_pushE_19 : decode cX4_pushE 19 = .ok (.iastore, 1) := dk_79 (dk_at dksX4_pushE_0 19 rfl rfl)
theorem dX4_pushE_20 : decode cX4_pushE 20 = .ok (.aload_n 0, 1) := dk_42 (dk_at dksX4_pushE_0 20 rfl rfl)
theorem dX4_pushE_21 : decode cX4_pushE 21 = .ok (.dup, 1) := dk_89 (dk_at dksX4_pushE_0 21 rfl rfl)
theorem dX4_pushE_22 : decode cX4_pushE 22 = .ok (.getfield 358, 3) := dk_180 1 102 (dk_at dksX4_pushE_1 0 rfl rfl)
theorem dX4_pushE_25 : decode cX4_pushE 25 = .ok (.iconst 1, 1) := dk_4 (dk_at dksX4_pushE_1 3 rfl rfl)
theorem dX4_pushE_26 : decode cX4_pushE 26 = .ok (.iadd, 1) := dk_96 (dk_at dksX4_pushE_1 4 rfl rfl)
theorem dX4_pushE_27 : decode cX4_pushE 27 = .ok (.putfield 358, 3) := dk_181 1 102 (dk_at dksX4_pushE_1 5 rfl rfl)
theorem dX4_pushE_30 : decode cX4_pushE 30 = .ok (.return_, 1) := dk_177 (dk_at dksX4_pushE_1 8 rfl rfl)
abbrev cX4_unit : ByteArray := prog_22_method_34_code
def yX4_unit : MethodName := ⟨RX4, "unit", "()Z"⟩
def dkwX4_unit_11 : List UInt8 := [167, 0, 5, 21, 4, 21, 6, 182, 1, 120, 3, 172]
abbrev dktX4_unit_11 : List UInt8 := dkwX4_unit_11 ++ []
def dkwX4_unit_10 : List UInt8 := [182, 1, 108, 42, 89, 180, 1, 105, 4, 96, 181, 1, 105, 4, 172, 42, 21, 4, 154, 0, 8, 16, 110]
abbrev dktX4_unit_10 : List UInt8 := dkwX4_unit_10 ++ dktX4_unit_11
def dkwX4_unit_9 : List UInt8 := [182, 1, 19, 28, 154, 0, 7, 29, 153, 0, 31, 42, 28, 153, 0, 7, 6, 167, 0, 5, 16, 7, 16, 126]
abbrev dktX4_unit_9 : List UInt8 := dkwX4_unit_9 ++ dktX4_unit_10
def dkwX4_unit_8 : List UInt8 := [167, 0, 4, 4, 96, 181, 1, 96, 21, 4, 154, 0, 10, 42, 180, 1, 5, 167, 0, 4, 3, 54, 6, 42]
abbrev dktX4_unit_8 : List UInt8 := dkwX4_unit_8 ++ dktX4_unit_9
def dkwX4_unit_7 : List UInt8 := [92, 46, 28, 153, 0, 7, 3, 167, 0, 4, 4, 96, 79, 42, 89, 180, 1, 96, 28, 153, 0, 7, 3]
abbrev dktX4_unit_7 : List UInt8 := dkwX4_unit_7 ++ dktX4_unit_8
def dkwX4_unit_6 : List UInt8 := [160, 0, 7, 42, 182, 1, 22, 42, 182, 1, 15, 154, 0, 5, 4, 172, 42, 180, 0, 33, 42, 180, 1, 36]
abbrev dktX4_unit_6 : List UInt8 := dkwX4_unit_6 ++ dktX4_unit_7
def dkwX4_unit_5 : List UInt8 := [153, 0, 25, 21, 5, 154, 0, 20, 28, 154, 0, 7, 29, 153, 0, 16, 42, 180, 1, 105, 16, 7]
abbrev dktX4_unit_5 : List UInt8 := dkwX4_unit_5 ++ dktX4_unit_6
def dkwX4_unit_4 : List UInt8 := [167, 0, 4, 3, 54, 5, 28, 154, 0, 25, 21, 4, 154, 0, 15, 42, 180, 0, 243, 7, 159, 0, 7, 29]
abbrev dktX4_unit_4 : List UInt8 := dkwX4_unit_4 ++ dktX4_unit_5
def dkwX4_unit_3 : List UInt8 := [180, 0, 33, 42, 180, 1, 36, 46, 16, 60, 159, 0, 12, 42, 180, 1, 96, 16, 30, 160, 0, 7, 4]
abbrev dktX4_unit_3 : List UInt8 := dkwX4_unit_3 ++ dktX4_unit_4
def dkwX4_unit_2 : List UInt8 := [153, 0, 7, 4, 167, 0, 4, 3, 61, 42, 16, 40, 182, 1, 79, 62, 42, 182, 1, 117, 54, 4, 42]
abbrev dktX4_unit_2 : List UInt8 := dkwX4_unit_2 ++ dktX4_unit_3
def dkwX4_unit_1 : List UInt8 := [100, 46, 16, 7, 161, 0, 7, 4, 167, 0, 4, 3, 60, 27, 153, 0, 17, 42, 20, 0, 231, 182, 1, 25]
abbrev dktX4_unit_1 : List UInt8 := dkwX4_unit_1 ++ dktX4_unit_2
def dkwX4_unit_0 : List UInt8 := [42, 180, 0, 104, 42, 180, 1, 102, 4, 100, 46, 6, 164, 0, 19, 42, 180, 0, 104, 42, 180, 1, 102, 4]
abbrev dktX4_unit_0 : List UInt8 := dkwX4_unit_0 ++ dktX4_unit_1
theorem dksX4_unit_0 : cX4_unit.data.toList.drop 0 = dktX4_unit_0 := by decide +kernel
theorem dksX4_unit_1 : cX4_unit.data.toList.drop 24 = dktX4_unit_1 := dk_seg dksX4_unit_0 24 rfl rfl
theorem dksX4_unit_2 : cX4_unit.data.toList.drop 48 = dktX4_unit_2 := dk_seg dksX4_unit_1 24 rfl rfl
theorem dksX4_unit_3 : cX4_unit.data.toList.drop 71 = dktX4_unit_3 := dk_seg dksX4_unit_2 23 rfl rfl
theorem dksX4_unit_4 : cX4_unit.data.toList.drop 94 = dktX4_unit_4 := dk_seg dksX4_unit_3 23 rfl rfl
theorem dksX4_unit_5 : cX4_unit.data.toList.drop 118 = dktX4_unit_5 := dk_seg dksX4_unit_4 24 rfl rfl
theorem dksX4_unit_6 : cX4_unit.data.toList.drop 140 = dktX4_unit_6 := dk_seg dksX4_unit_5 22 rfl rfl
theorem dksX4_unit_7 : cX4_unit.data.toList.drop 164 = dktX4_unit_7 := dk_seg dksX4_unit_6 24 rfl rfl
theorem dksX4_unit_8 : cX4_unit.data.toList.drop 187 = dktX4_unit_8 := dk_seg dksX4_unit_7 23 rfl rfl
theorem dksX4_unit_9 : cX4_unit.data.toList.drop 211 = dktX4_unit_9 := dk_seg dksX4_unit_8 24 rfl rfl
theorem dksX4_unit_10 : cX4_unit.data.toList.drop 235 = dktX4_unit_10 := dk_seg dksX4_unit_9 24 rfl rfl
theorem dksX4_unit_11 : cX4_unit.data.toList.drop 258 = dktX4_unit_11 := dk_seg dksX4_unit_10 23 rfl rfl
theorem dX4_unit_0 : decode cX4_unit 0 = .ok (.aload_n 0, 1) := dk_42 (dk_at dksX4_unit_0 0 rfl rfl)
theorem dX4_unit_1 : decode cX4_unit 1 = .ok (.getfield 104, 3) := dk_180 0 104 (dk_at dksX4_unit_0 1 rfl rfl)
theorem dX4_unit_4 : decode cX4_unit 4 = .ok (.aload_n 0, 1) := dk_42 (dk_at dksX4_unit_0 4 rfl rfl)
theorem dX4_unit_5 : decode cX4_unit 5 = .ok (.getfield 358, 3) := dk_180 1 102 (dk_at dksX4_unit_0 5 rfl rfl)
theorem dX4_unit_8 : decode cX4_unit 8 = .ok (.iconst 1, 1) := dk_4 (dk_at dksX4_unit_0 8 rfl rfl)
theorem dX4_unit_9 : decode cX4_unit 9 = .ok (.isub, 1) := dk_100 (dk_at dksX4_unit_0 9 rfl rfl)
theorem dX4_unit_10 : decode cX4_unit 10 = .ok (.iaload, 1) := dk_46 (dk_at dksX4_unit_0 10 rfl rfl)
theorem dX4_unit_11 : decode cX4_unit 11 = .ok (.iconst 3, 1) := dk_6 (dk_at dksX4_unit_0 11 rfl rfl)
theorem dX4_unit_12 : decode cX4_unit 12 = .ok (.if_icmp .le 19, 3) := dk_164 0 19 (dk_at dksX4_unit_0 12 rfl rfl)
theorem dX4_unit_15 : decode cX4_unit 15 = .ok (.aload_n 0, 1) := dk_42 (dk_at dksX4_unit_0 15 rfl rfl)
theorem dX4_unit_16 : decode cX4_unit 16 = .ok (.getfield 104, 3) := dk_180 0 104 (dk_at dksX4_unit_0 16 rfl rfl)
theorem dX4_unit_19 : decode cX4_unit 19 = .ok (.aload_n 0, 1) := dk_42 (dk_at dksX4_unit_0 19 rfl rfl)
theorem dX4_unit_20 : decode cX4_unit 20 = .ok (.getfield 358, 3) := dk_180 1 102 (dk_at dksX4_unit_0 20 rfl rfl)
theorem dX4_unit_23 : decode cX4_unit 23 = .ok (.iconst 1, 1) := dk_4 (dk_at dksX4_unit_0 23 rfl rfl)
theorem dX4_unit_24 : decode cX4_unit 24 = .ok (.isub, 1) := dk_100 (dk_at dksX4_unit_1 0 rfl rfl)
theorem dX4_unit_25 : decode cX4_unit 25 = .ok (.iaload, 1) := dk_46 (dk_at dksX4_unit_1 1 rfl rfl)
theorem dX4_unit_26 : decode cX4_unit 26 = .ok (.bipush 7, 2) := dk_16 7 (dk_at dksX4_unit_1 2 rfl rfl)
theorem dX4_unit_28 : decode cX4_unit 28 = .ok (.if_icmp .lt 7, 3) := dk_161 0 7 (dk_at dksX4_unit_1 4 rfl rfl)
theorem dX4_unit_31 : decode cX4_unit 31 = .ok (.iconst 1, 1) := dk_4 (dk_at dksX4_unit_1 7 rfl rfl)
theorem dX4_unit_32 : decode cX4_unit 32 = .ok (.goto 4, 3) := dk_167 0 4 (dk_at dksX4_unit_1 8 rfl rfl)
theorem dX4_unit_35 : decode cX4_unit 35 = .ok (.iconst 0, 1) := dk_3 (dk_at dksX4_unit_1 11 rfl rfl)
theorem dX4_unit_36 : decode cX4_unit 36 = .ok (.istore_n 1, 1) := dk_60 (dk_at dksX4_unit_1 12 rfl rfl)
theorem dX4_unit_37 : decode cX4_unit 37 = .ok (.iload_n 1, 1) := dk_27 (dk_at dksX4_unit_1 13 rfl rfl)
theorem dX4_unit_38 : decode cX4_unit 38 = .ok (.ifCond .eq 17, 3) := dk_153 0 17 (dk_at dksX4_unit_1 14 rfl rfl)
theorem dX4_unit_41 : decode cX4_unit 41 = .ok (.aload_n 0, 1) := dk_42 (dk_at dksX4_unit_1 17 rfl rfl)
theorem dX4_unit_42 : decode cX4_unit 42 = .ok (.ldc2_w 231, 3) := dk_20 0 231 (dk_at dksX4_unit_1 18 rfl rfl)
theorem dX4_unit_45 : decode cX4_unit 45 = .ok (.invokevirtual 281, 3) := dk_182 1 25 (dk_at dksX4_unit_1 21 rfl rfl)
theorem dX4_unit_48 : decode cX4_unit 48 = .ok (.ifCond .eq 7, 3) := dk_153 0 7 (dk_at dksX4_unit_2 0 rfl rfl)
theorem dX4_unit_51 : decode cX4_unit 51 = .ok (.iconst 1, 1) := dk_4 (dk_at dksX4_unit_2 3 rfl rfl)
theorem dX4_unit_52 : decode cX4_unit 52 = .ok (.goto 4, 3) := dk_167 0 4 (dk_at dksX4_unit_2 4 rfl rfl)
theorem dX4_unit_55 : decode cX4_unit 55 = .ok (.iconst 0, 1) := dk_3 (dk_at dksX4_unit_2 7 rfl rfl)
theorem dX4_unit_56 : decode cX4_unit 56 = .ok (.istore_n 2, 1) := dk_61 (dk_at dksX4_unit_2 8 rfl rfl)
theorem dX4_unit_57 : decode cX4_unit 57 = .ok (.aload_n 0, 1) := dk_42 (dk_at dksX4_unit_2 9 rfl rfl)
theorem dX4_unit_58 : decode cX4_unit 58 = .ok (.bipush 40, 2) := dk_16 40 (dk_at dksX4_unit_2 10 rfl rfl)
theorem dX4_unit_60 : decode cX4_unit 60 = .ok (.invokevirtual 335, 3) := dk_182 1 79 (dk_at dksX4_unit_2 12 rfl rfl)
theorem dX4_unit_63 : decode cX4_unit 63 = .ok (.istore_n 3, 1) := dk_62 (dk_at dksX4_unit_2 15 rfl rfl)
theorem dX4_unit_64 : decode cX4_unit 64 = .ok (.aload_n 0, 1) := dk_42 (dk_at dksX4_unit_2 16 rfl rfl)
theorem dX4_unit_65 : decode cX4_unit 65 = .ok (.invokevirtual 373, 3) := dk_182 1 117 (dk_at dksX4_unit_2 17 rfl rfl)
theorem dX4_unit_68 : decode cX4_unit 68 = .ok (.istore 4, 2) := dk_54 4 (dk_at dksX4_unit_2 20 rfl rfl)
theorem dX4_unit_70 : decode cX4_unit 70 = .ok (.aload_n 0, 1) := dk_42 (dk_at dksX4_unit_2 22 rfl rfl)
theorem dX4_unit_71 : decode cX4_unit 71 = .ok (.getfield 33, 3) := dk_180 0 33 (dk_at dksX4_unit_3 0 rfl rfl)
theorem dX4_unit_74 : decode cX4_unit 74 = .ok (.aload_n 0, 1) := dk_42 (dk_at dksX4_unit_3 3 rfl rfl)
theorem dX4_unit_75 : decode cX4_unit 75 = .ok (.getfield 292, 3) := dk_180 1 36 (dk_at dksX4_unit_3 4 rfl rfl)
theorem dX4_unit_78 : decode cX4_unit 78 = .ok (.iaload, 1) := dk_46 (dk_at dksX4_unit_3 7 rfl rfl)
theorem dX4_unit_79 : decode cX4_unit 79 = .ok (.bipush 60, 2) := dk_16 60 (dk_at dksX4_unit_3 8 rfl rfl)
theorem dX4_unit_81 : decode cX4_unit 81 = .ok (.if_icmp .eq 12, 3) := dk_159 0 12 (dk_at dksX4_unit_3 10 rfl rfl)
theorem dX4_unit_84 : decode cX4_unit 84 = .ok (.aload_n 0, 1) := dk_42 (dk_at dksX4_unit_3 13 rfl rfl)
theorem dX4_unit_85 : decode cX4_unit 85 = .ok (.getfield 352, 3) := dk_180 1 96 (dk_at dksX4_unit_3 14 rfl rfl)
theorem dX4_unit_88 : decode cX4_unit 88 = .ok (.bipush 30, 2) := dk_16 30 (dk_at dksX4_unit_3 17 rfl rfl)
theorem dX4_unit_90 : decode cX4_unit 90 = .ok (.if_icmp .ne 7, 3) := dk_160 0 7 (dk_at dksX4_unit_3 19 rfl rfl)
theorem dX4_unit_93 : decode cX4_unit 93 = .ok (.iconst 1, 1) := dk_4 (dk_at dksX4_unit_3 22 rfl rfl)
theorem dX4_unit_94 : decode cX4_unit 94 = .ok (.goto 4, 3) := dk_167 0 4 (dk_at dksX4_unit_4 0 rfl rfl)
theorem dX4_unit_97 : decode cX4_unit 97 = .ok (.iconst 0, 1) := dk_3 (dk_at dksX4_unit_4 3 rfl rfl)
theorem dX4_unit_98 : decode cX4_unit 98 = .ok (.istore 5, 2) := dk_54 5 (dk_at dksX4_unit_4 4 rfl rfl)
theorem dX4_unit_100 : decode cX4_unit 100 = .ok (.iload_n 2, 1) := dk_28 (dk_at dksX4_unit_4 6 rfl rfl)
theorem dX4_unit_101 : decode cX4_unit 101 = .ok (.ifCond .ne 25, 3) := dk_154 0 25 (dk_at dksX4_unit_4 7 rfl rfl)
theorem dX4_unit_104 : decode cX4_unit 104 = .ok (.iload 4, 2) := dk_21 4 (dk_at dksX4_unit_4 10 rfl rfl)
theorem dX4_unit_106 : decode cX4_unit 106 = .ok (.ifCond .ne 15, 3) := dk_154 0 15 (dk_at dksX4_unit_4 12 rfl rfl)
theorem dX4_unit_109 : decode cX4_unit 109 = .ok (.aload_n 0, 1) := dk_42 (dk_at dksX4_unit_4 15 rfl rfl)
theorem dX4_unit_110 : decode cX4_unit 110 = .ok (.getfield 243, 3) := dk_180 0 243 (dk_at dksX4_unit_4 16 rfl rfl)
theorem dX4_unit_113 : decode cX4_unit 113 = .ok (.iconst 4, 1) := dk_7 (dk_at dksX4_unit_4 19 rfl rfl)
theorem dX4_unit_114 : decode cX4_unit 114 = .ok (.if_icmp .eq 7, 3) := dk_159 0 7 (dk_at dksX4_unit_4 20 rfl rfl)
theorem dX4_unit_117 : decode cX4_unit 117 = .ok (.iload_n 3, 1) := dk_29 (dk_at dksX4_unit_4 23 rfl rfl)
theorem dX4_unit_118 : decode cX4_unit 118 = .ok (.ifCond .eq 25, 3) := dk_153 0 25 (dk_at dksX4_unit_5 0 rfl rfl)
theorem dX4_unit_121 : decode cX4_unit 121 = .ok (.iload 5, 2) := dk_21 5 (dk_at dksX4_unit_5 3 rfl rfl)
theorem dX4_unit_123 : decode cX4_unit 123 = .ok (.ifCond .ne 20, 3) := dk_154 0 20 (dk_at dksX4_unit_5 5 rfl rfl)
theorem dX4_unit_126 : decode cX4_unit 126 = .ok (.iload_n 2, 1) := dk_28 (dk_at dksX4_unit_5 8 rfl rfl)
theorem dX4_unit_127 : decode cX4_unit 127 = .ok (.ifCond .ne 7, 3) := dk_154 0 7 (dk_at dksX4_unit_5 9 rfl rfl)
theorem dX4_unit_130 : decode cX4_unit 130 = .ok (.iload_n 3, 1) := dk_29 (dk_at dksX4_unit_5 12 rfl rfl)
theorem dX4_unit_131 : decode cX4_unit 131 = .ok (.ifCond .eq 16, 3) := dk_153 0 16 (dk_at dksX4_unit_5 13 rfl rfl)
theorem dX4_unit_134 : decode cX4_unit 134 = .ok (.aload_n 0, 1) := dk_42 (dk_at dksX4_unit_5 16 rfl rfl)
theorem dX4_unit_135 : decode cX4_unit 135 = .ok (.getfield 361, 3) := dk_180 1 105 (dk_at dksX4_unit_5 17 rfl rfl)
theorem dX4_unit_138 : decode cX4_unit 138 = .ok (.bipush 7, 2) := dk_16 7 (dk_at dksX4_unit_5 20 rfl rfl)
theorem dX4_unit_140 : decode cX4_unit 140 = .ok (.if_icmp .ne 7, 3) := dk_160 0 7 (dk_at dksX4_unit_6 0 rfl rfl)
theorem dX4_unit_143 : decode cX4_unit 143 = .ok (.aload_n 0, 1) := dk_42 (dk_at dksX4_unit_6 3 rfl rfl)
theorem dX4_unit_144 : decode cX4_unit 144 = .ok (.invokevirtual 278, 3) := dk_182 1 22 (dk_at dksX4_unit_6 4 rfl rfl)
theorem dX4_unit_147 : decode cX4_unit 147 = .ok (.aload_n 0, 1) := dk_42 (dk_at dksX4_unit_6 7 rfl rfl)
theorem dX4_unit_148 : decode cX4_unit 148 = .ok (.invokevirtual 271, 3) := dk_182 1 15 (dk_at dksX4_unit_6 8 rfl rfl)
theorem dX4_unit_151 : decode cX4_unit 151 = .ok (.ifCond .ne 5, 3) := dk_154 0 5 (dk_at dksX4_unit_6 11 rfl rfl)
theorem dX4_unit_154 : decode cX4_unit 154 = .ok (.iconst 1, 1) := dk_4 (dk_at dksX4_unit_6 14 rfl rfl)
theorem dX4_unit_155 : decode cX4_unit 155 = .ok (.ireturn, 1) := dk_172 (dk_at dksX4_unit_6 15 rfl rfl)
theorem dX4_unit_156 : decode cX4_unit 156 = .ok (.aload_n 0, 1) := dk_42 (dk_at dksX4_unit_6 16 rfl rfl)
theorem dX4_unit_157 : decode cX4_unit 157 = .ok (.getfield 33, 3) := dk_180 0 33 (dk_at dksX4_unit_6 17 rfl rfl)
theorem dX4_unit_160 : decode cX4_unit 160 = .ok (.aload_n 0, 1) := dk_42 (dk_at dksX4_unit_6 20 rfl rfl)
theorem dX4_unit_161 : decode cX4_unit 161 = .ok (.getfield 292, 3) := dk_180 1 36 (dk_at dksX4_unit_6 21 rfl rfl)
theorem dX4_unit_164 : decode cX4_unit 164 = .ok (.dup2, 1) := dk_92 (dk_at dksX4_unit_7 0 rfl rfl)
theorem dX4_unit_165 : decode cX4_unit 165 = .ok (.iaload, 1) := dk_46 (dk_at dksX4_unit_7 1 rfl rfl)
theorem dX4_unit_166 : decode cX4_unit 166 = .ok (.iload_n 2, 1) := dk_28 (dk_at dksX4_unit_7 2 rfl rfl)
theorem dX4_unit_167 : decode cX4_unit 167 = .ok (.ifCond .eq 7, 3) := dk_153 0 7 (dk_at dksX4_unit_7 3 rfl rfl)
theorem dX4_unit_170 : decode cX4_unit 170 = .ok (.iconst 0, 1) := dk_3 (dk_at dksX4_unit_7 6 rfl rfl)
theorem dX4_unit_171 : decode cX4_unit 171 = .ok (.goto 4, 3) := dk_167 0 4 (dk_at dksX4_unit_7 7 rfl rfl)
theorem dX4_unit_174 : decode cX4_unit 174 = .ok (.iconst 1, 1) := dk_4 (dk_at dksX4_unit_7 10 rfl rfl)
theorem dX4_unit_175 : decode cX4_unit 175 = .ok (.iadd, 1) := dk_96 (dk_at dksX4_unit_7 11 rfl rfl)
theorem dX4_unit_176 : decode cX4_unit 176 = .ok (.iastore, 1) := dk_79 (dk_at dksX4_unit_7 12 rfl rfl)
theorem dX4_unit_177 : decode cX4_unit 177 = .ok (.aload_n 0, 1) := dk_42 (dk_at dksX4_unit_7 13 rfl rfl)
theorem dX4_unit_178 : decode cX4_unit 178 = .ok (.dup, 1) := dk_89 (dk_at dksX4_unit_7 14 rfl rfl)
theorem dX4_unit_179 : decode cX4_unit 179 = .ok (.getfield 352, 3) := dk_180 1 96 (dk_at dksX4_unit_7 15 rfl rfl)
theorem dX4_unit_182 : decode cX4_unit 182 = .ok (.iload_n 2, 1) := dk_28 (dk_at dksX4_unit_7 18 rfl rfl)
theorem dX4_unit_183 : decode cX4_unit 183 = .ok (.ifCond .eq 7, 3) := dk_153 0 7 (dk_at dksX4_unit_7 19 rfl rfl)
theorem dX4_unit_186 : decode cX4_unit 186 = .ok (.iconst 0, 1) := dk_3 (dk_at dksX4_unit_7 22 rfl rfl)
theorem dX4_unit_187 : decode cX4_unit 187 = .ok (.goto 4, 3) := dk_167 0 4 (dk_at dksX4_unit_8 0 rfl rfl)
theorem dX4_unit_190 : decode cX4_unit 190 = .ok (.iconst 1, 1) := dk_4 (dk_at dksX4_unit_8 3 rfl rfl)
theorem dX4_unit_191 : decode cX4_unit 191 = .ok (.iadd, 1) := dk_96 (dk_at dksX4_unit_8 4 rfl rfl)
theorem dX4_unit_192 : decode cX4_unit 192 = .ok (.putfield 352, 3) := dk_181 1 96 (dk_at dksX4_unit_8 5 rfl rfl)
theorem dX4_unit_195 : decode cX4_unit 195 = .ok (.iload 4, 2) := dk_21 4 (dk_at dksX4_unit_8 8 rfl rfl)
theorem dX4_unit_197 : decode cX4_unit 197 = .ok (.ifCond .ne 10, 3) := dk_154 0 10 (dk_at dksX4_unit_8 10 rfl rfl)
theorem dX4_unit_200 : decode cX4_unit 200 = .ok (.aload_n 0, 1) := dk_42 (dk_at dksX4_unit_8 13 rfl rfl)
theorem dX4_unit_201 : decode cX4_unit 201 = .ok (.getfield 261, 3) := dk_180 1 5 (dk_at dksX4_unit_8 14 rfl rfl)
theorem dX4_unit_204 : decode cX4_unit 204 = .ok (.goto 4, 3) := dk_167 0 4 (dk_at dksX4_unit_8 17 rfl rfl)
theorem dX4_unit_207 : decode cX4_unit 207 = .ok (.iconst 0, 1) := dk_3 (dk_at dksX4_unit_8 20 rfl rfl)
theorem dX4_unit_208 : decode cX4_unit 208 = .ok (.istore 6, 2) := dk_54 6 (dk_at dksX4_unit_8 21 rfl rfl)
theorem dX4_unit_210 : decode cX4_unit 210 = .ok (.aload_n 0, 1) := dk_42 (dk_at dksX4_unit_8 23 rfl rfl)
theorem dX4_unit_211 : decode cX4_unit 211 = .ok (.invokevirtual 275, 3) := dk_182 1 19 (dk_at dksX4_unit_9 0 rfl rfl)
theorem dX4_unit_214 : decode cX4_unit 214 = .ok (.iload_n 2, 1) := dk_28 (dk_at dksX4_unit_9 3 rfl rfl)
theorem dX4_unit_215 : decode cX4_unit 215 = .ok (.ifCond .ne 7, 3) := dk_154 0 7 (dk_at dksX4_unit_9 4 rfl rfl)
theorem dX4_unit_218 : decode cX4_unit 218 = .ok (.iload_n 3, 1) := dk_29 (dk_at dksX4_unit_9 7 rfl rfl)
theorem dX4_unit_219 : decode cX4_unit 219 = .ok (.ifCond .eq 31, 3) := dk_153 0 31 (dk_at dksX4_unit_9 8 rfl rfl)
theorem dX4_unit_222 : decode cX4_unit 222 = .ok (.aload_n 0, 1) := dk_42 (dk_at dksX4_unit_9 11 rfl rfl)
theorem dX4_unit_223 : decode cX4_unit 223 = .ok (.iload_n 2, 1) := dk_28 (dk_at dksX4_unit_9 12 rfl rfl)
theorem dX4_unit_224 : decode cX4_unit 224 = .ok (.ifCond .eq 7, 3) := dk_153 0 7 (dk_at dksX4_unit_9 13 rfl rfl)
theorem dX4_unit_227 : decode cX4_unit 227 = .ok (.iconst 3, 1) := dk_6 (dk_at dksX4_unit_9 16 rfl rfl)
theorem dX4_unit_228 : decode cX4_unit 228 = .ok (.goto 5, 3) := dk_167 0 5 (dk_at dksX4_unit_9 17 rfl rfl)
theorem dX4_unit_231 : decode cX4_unit 231 = .ok (.bipush 7, 2) := dk_16 7 (dk_at dksX4_unit_9 20 rfl rfl)
theorem dX4_unit_233 : decode cX4_unit 233 = .ok (.bipush 126, 2) := dk_16 126 (dk_at dksX4_unit_9 22 rfl rfl)
theorem dX4_unit_235 : decode cX4_unit 235 = .ok (.invokevirtual 364, 3) := dk_182 1 108 (dk_at dksX4_unit_10 0 rfl rfl)
theorem dX4_unit_238 : decode cX4_unit 238 = .ok (.aload_n 0, 1) := dk_42 (dk_at dksX4_unit_10 3 rfl rfl)
theorem dX4_unit_239 : decode cX4_unit 239 = .ok (.dup, 1) := dk_89 (dk_at dksX4_unit_10 4 rfl rfl)
theorem dX4_unit_240 : decode cX4_unit 240 = .ok (.getfield 361, 3) := dk_180 1 105 (dk_at dksX4_unit_10 5 rfl rfl)
theorem dX4_unit_243 : decode cX4_unit 243 = .ok (.iconst 1, 1) := dk_4 (dk_at dksX4_unit_10 8 rfl rfl)
theorem dX4_unit_244 : decode cX4_unit 244 = .ok (.iadd, 1) := dk_96 (dk_at dksX4_unit_10 9 rfl rfl)
theorem dX4_unit_245 : decode cX4_unit 245 = .ok (.putfield 361, 3) := dk_181 1 105 (dk_at dksX4_unit_10 10 rfl rfl)
theorem dX4_unit_248 : decode cX4_unit 248 = .ok (.iconst 1, 1) := dk_4 (dk_at dksX4_unit_10 13 rfl rfl)
theorem dX4_unit_249 : decode cX4_unit 249 = .ok (.ireturn, 1) := dk_172 (dk_at dksX4_unit_10 14 rfl rfl)
theorem dX4_unit_250 : decode cX4_unit 250 = .ok (.aload_n 0, 1) := dk_42 (dk_at dksX4_unit_10 15 rfl rfl)
theorem dX4_unit_251 : decode cX4_unit 251 = .ok (.iload 4, 2) := dk_21 4 (dk_at dksX4_unit_10 16 rfl rfl)
theorem dX4_unit_253 : decode cX4_unit 253 = .ok (.ifCond .ne 8, 3) := dk_154 0 8 (dk_at dksX4_unit_10 18 rfl rfl)
theorem dX4_unit_256 : decode cX4_unit 256 = .ok (.bipush 110, 2) := dk_16 110 (dk_at dksX4_unit_10 21 rfl rfl)
theorem dX4_unit_258 : decode cX4_unit 258 = .ok (.goto 5, 3) := dk_167 0 5 (dk_at dksX4_unit_11 0 rfl rfl)
theorem dX4_unit_261 : decode cX4_unit 261 = .ok (.iload 4, 2) := dk_21 4 (dk_at dksX4_unit_11 3 rfl rfl)
theorem dX4_unit_263 : decode cX4_unit 263 = .ok (.iload 6, 2) := dk_21 6 (dk_at dksX4_unit_11 5 rfl rfl)
theorem dX4_unit_265 : decode cX4_unit 265 = .ok (.invokevirtual 376, 3) := dk_182 1 120 (dk_at dksX4_unit_11 7 rfl rfl)
theorem dX4_unit_268 : decode cX4_unit 268 = .ok (.iconst 0, 1) := dk_3 (dk_at dksX4_unit_11 10 rfl rfl)
theorem dX4_unit_269 : decode cX4_unit 269 = .ok (.ireturn, 1) := dk_172 (dk_at dksX4_unit_11 11 rfl rfl)
abbrev cX4_isSignHere : ByteArray := prog_22_method_10_code
def yX4_isSignHere : MethodName := ⟨RX4, "isSignHere", "(I)Z"⟩
def dkwX4_isSignHere_1 : List UInt8 := [3, 172]
abbrev dktX4_isSignHere_1 : List UInt8 := dkwX4_isSignHere_1 ++ []
def dkwX4_isSignHere_0 : List UInt8 := [42, 180, 0, 243, 8, 160, 0, 19, 42, 42, 180, 0, 236, 182, 0, 239, 27, 160, 0, 7, 4, 167, 0, 4]
abbrev dktX4_isSignHere_0 : List UInt8 := dkwX4_isSignHere_0 ++ dktX4_isSignHere_1
theorem dksX4_isSignHere_0 : cX4_isSignHere.data.toList.drop 0 = dktX4_isSignHere_0 := by decide +kernel
theorem dksX4_isSignHere_1 : cX4_isSignHere.data.toList.drop 24 = dktX4_isSignHere_1 := dk_seg dksX4_isSignHere_0 24 rfl rfl
theorem dX4_isSignHere_0 : decode cX4_isSignHere 0 = .ok (.aload_n 0, 1) := dk_42 (dk_at dksX4_isSignHere_0 0 rfl rfl)
theorem dX4_isSignHere_1 : decode cX4_isSignHere 1 = .ok (.getfield 243, 3) := dk_180 0 243 (dk_at dksX4_isSignHere_0 1 rfl rfl)
theorem dX4_isSignHere_4 : decode cX4_isSignHere 4 = .ok (.iconst 5, 1) := dk_8 (dk_at dksX4_isSignHere_0 4 rfl rfl)
theorem dX4_isSignHere_5 : decode cX4_isSignHere 5 = .ok (.if_icmp .ne 19, 3) := dk_160 0 19 (dk_at dksX4_isSignHere_0 5 rfl rfl)
theorem dX4_isSignHere_8 : decode cX4_isSignHere 8 = .ok (.aload_n 0, 1) := dk_42 (dk_at dksX4_isSignHere_0 8 rfl rfl)
theorem dX4_isSignHere_9 : decode cX4_isSignHere 9 = .ok (.aload_n 0, 1) := dk_42 (dk_at dksX4_isSignHere_0 9 rfl rfl)
theorem dX4_isSignHere_10 : decode cX4_isSignHere 10 = .ok (.getfield 236, 3) := dk_180 0 236 (dk_at dksX4_isSignHere_0 10 rfl rfl)
theorem dX4_isSignHere_13 : decode cX4_isSignHere 13 = .ok (.invokevirtual 239, 3) := dk_182 0 239 (dk_at dksX4_isSignHere_0 13 rfl rfl)
theorem dX4_isSignHere_16 : decode cX4_isSignHere 16 = .ok (.iload_n 1, 1) := dk_27 (dk_at dksX4_isSignHere_0 16 rfl rfl)
theorem dX4_isSignHere_17 : decode cX4_isSignHere 17 = .ok (.if_icmp .ne 7, 3) := dk_160 0 7 (dk_at dksX4_isSignHere_0 17 rfl rfl)
theorem dX4_isSignHere_20 : decode cX4_isSignHere 20 = .ok (.iconst 1, 1) := dk_4 (dk_at dksX4_isSignHere_0 20 rfl rfl)
theorem dX4_isSignHere_21 : decode cX4_isSignHere 21 = .ok (.goto 4, 3) := dk_167 0 4 (dk_at dksX4_isSignHere_0 21 rfl rfl)
theorem dX4_isSignHere_24 : decode cX4_isSignHere 24 = .ok (.iconst 0, 1) := dk_3 (dk_at dksX4_isSignHere_1 0 rfl rfl)
theorem dX4_isSignHere_25 : decode cX4_isSignHere 25 = .ok (.ireturn, 1) := dk_172 (dk_at dksX4_isSignHere_1 1 rfl rfl)
abbrev cX4_wordHere : ByteArray := prog_22_method_33_code
def yX4_wordHere : MethodName := ⟨RX4, "wordHere", "()I"⟩
def dkwX4_wordHere_3 : List UInt8 := [182, 1, 25, 153, 0, 8, 16, 112, 167, 0, 4, 3, 172]
abbrev dktX4_wordHere_3 : List UInt8 := dkwX4_wordHere_3 ++ []
def dkwX4_wordHere_2 : List UInt8 := [153, 0, 6, 16, 99, 172, 42, 20, 0, 223, 182, 1, 25, 153, 0, 6, 16, 119, 172, 42, 20, 0, 225]
abbrev dktX4_wordHere_2 : List UInt8 := dkwX4_wordHere_2 ++ dktX4_wordHere_3
def dkwX4_wordHere_1 : List UInt8 := [16, 115, 172, 42, 20, 0, 221, 182, 1, 25, 153, 0, 6, 16, 116, 172, 42, 20, 0, 195, 182, 1, 25]
abbrev dktX4_wordHere_1 : List UInt8 := dkwX4_wordHere_1 ++ dktX4_wordHere_2
def dkwX4_wordHere_0 : List UInt8 := [42, 20, 0, 217, 182, 1, 25, 153, 0, 6, 16, 102, 172, 42, 20, 0, 219, 182, 1, 25, 153, 0, 6]
abbrev dktX4_wordHere_0 : List UInt8 := dkwX4_wordHere_0 ++ dktX4_wordHere_1
theorem dksX4_wordHere_0 : cX4_wordHere.data.toList.drop 0 = dktX4_wordHere_0 := by decide +kernel
theorem dksX4_wordHere_1 : cX4_wordHere.data.toList.drop 23 = dktX4_wordHere_1 := dk_seg dksX4_wordHere_0 23 rfl rfl
theorem dksX4_wordHere_2 : cX4_wordHere.data.toList.drop 46 = dktX4_wordHere_2 := dk_seg dksX4_wordHere_1 23 rfl rfl
theorem dksX4_wordHere_3 : cX4_wordHere.data.toList.drop 69 = dktX4_wordHere_3 := dk_seg dksX4_wordHere_2 23 rfl rfl
theorem dX4_wordHere_0 : decode cX4_wordHere 0 = .ok (.aload_n 0, 1) := dk_42 (dk_at dksX4_wordHere_0 0 rfl rfl)
theorem dX4_wordHere_1 : decode cX4_wordHere 1 = .ok (.ldc2_w 217, 3) := dk_20 0 217 (dk_at dksX4_wordHere_0 1 rfl rfl)
theorem dX4_wordHere_4 : decode cX4_wordHere 4 = .ok (.invokevirtual 281, 3) := dk_182 1 25 (dk_at dksX4_wordHere_0 4 rfl rfl)
theorem dX4_wordHere_7 : decode cX4_wordHere 7 = .ok (.ifCond .eq 6, 3) := dk_153 0 6 (dk_at dksX4_wordHere_0 7 rfl rfl)
theorem dX4_wordHere_10 : decode cX4_wordHere 10 = .ok (.bipush 102, 2) := dk_16 102 (dk_at dksX4_wordHere_0 10 rfl rfl)
theorem dX4_wordHere_12 : decode cX4_wordHere 12 = .ok (.ireturn, 1) := dk_172 (dk_at dksX4_wordHere_0 12 rfl rfl)
theorem dX4_wordHere_13 : decode cX4_wordHere 13 = .ok (.aload_n 0, 1) := dk_42 (dk_at dksX4_wordHere_0 13 rfl rfl)
theorem dX4_wordHere_14 : decode cX4_wordHere 14 = .ok (.ldc2_w 219, 3) := dk_20 0 219 (dk_at dksX4_wordHere_0 14 rfl rfl)
theorem dX4_wordHere_17 : decode cX4_wordHere 17 = .ok (.invokevirtual 281, 3) := dk_182 1 25 (dk_at dksX4_wordHere_0 17 rfl rfl)
theorem dX4_wordHere_20 : decode cX4_wordHere 20 = .ok (.ifCond .eq 6, 3) := dk_153 0 6 (dk_at dksX4_wordHere_0 20 rfl rfl)
theorem dX4_wordHere_23 : decode cX4_wordHere 23 = .ok (.bipush 115, 2) := dk_16 115 (dk_at dksX4_wordHere_1 0 rfl rfl)
theorem dX4_wordHere_25 : decode cX4_wordHere 25 = .ok (.ireturn, 1) := dk_172 (dk_at dksX4_wordHere_1 2 rfl rfl)
theorem dX4_wordHere_26 : decode cX4_wordHere 26 = .ok (.aload_n 0, 1) := dk_42 (dk_at dksX4_wordHere_1 3 rfl rfl)
theorem dX4_wordHere_27 : decode cX4_wordHere 27 = .ok (.ldc2_w 221, 3) := dk_20 0 221 (dk_at dksX4_wordHere_1 4 rfl rfl)
theorem dX4_wordHere_30 : decode cX4_wordHere 30 = .ok (.invokevirtual 281, 3) := dk_182 1 25 (dk_at dksX4_wordHere_1 7 rfl rfl)
theorem dX4_wordHere_33 : decode cX4_wordHere 33 = .ok (.ifCond .eq 6, 3) := dk_153 0 6 (dk_at dksX4_wordHere_1 10 rfl rfl)
theorem dX4_wordHere_36 : decode cX4_wordHere 36 = .ok (.bipush 116, 2) := dk_16 116 (dk_at dksX4_wordHere_1 13 rfl rfl)
theorem dX4_wordHere_38 : decode cX4_wordHere 38 = .ok (.ireturn, 1) := dk_172 (dk_at dksX4_wordHere_1 15 rfl rfl)
theorem dX4_wordHere_39 : decode cX4_wordHere 39 = .ok (.aload_n 0, 1) := dk_42 (dk_at dksX4_wordHere_1 16 rfl rfl)
theorem dX4_wordHere_40 : decode cX4_wordHere 40 = .ok (.ldc2_w 195, 3) := dk_20 0 195 (dk_at dksX4_wordHere_1 17 rfl rfl)
theorem dX4_wordHere_43 : decode cX4_wordHere 43 = .ok (.invokevirtual 281, 3) := dk_182 1 25 (dk_at dksX4_wordHere_1 20 rfl rfl)
theorem dX4_wordHere_46 : decode cX4_wordHere 46 = .ok (.ifCond .eq 6, 3) := dk_153 0 6 (dk_at dksX4_wordHere_2 0 rfl rfl)
theorem dX4_wordHere_49 : decode cX4_wordHere 49 = .ok (.bipush 99, 2) := dk_16 99 (dk_at dksX4_wordHere_2 3 rfl rfl)
theorem dX4_wordHere_51 : decode cX4_wordHere 51 = .ok (.ireturn, 1) := dk_172 (dk_at dksX4_wordHere_2 5 rfl rfl)
theorem dX4_wordHere_52 : decode cX4_wordHere 52 = .ok (.aload_n 0, 1) := dk_42 (dk_at dksX4_wordHere_2 6 rfl rfl)
theorem dX4_wordHere_53 : decode cX4_wordHere 53 = .ok (.ldc2_w 223, 3) := dk_20 0 223 (dk_at dksX4_wordHere_2 7 rfl rfl)
theorem dX4_wordHere_56 : decode cX4_wordHere 56 = .ok (.invokevirtual 281, 3) := dk_182 1 25 (dk_at dksX4_wordHere_2 10 rfl rfl)
theorem dX4_wordHere_59 : decode cX4_wordHere 59 = .ok (.ifCond .eq 6, 3) := dk_153 0 6 (dk_at dksX4_wordHere_2 13 rfl rfl)
theorem dX4_wordHere_62 : decode cX4_wordHere 62 = .ok (.bipush 119, 2) := dk_16 119 (dk_at dksX4_wordHere_2 16 rfl rfl)
theorem dX4_wordHere_64 : decode cX4_wordHere 64 = .ok (.ireturn, 1) := dk_172 (dk_at dksX4_wordHere_2 18 rfl rfl)
theorem dX4_wordHere_65 : decode cX4_wordHere 65 = .ok (.aload_n 0, 1) := dk_42 (dk_at dksX4_wordHere_2 19 rfl rfl)
theorem dX4_wordHere_66 : decode cX4_wordHere 66 = .ok (.ldc2_w 225, 3) := dk_20 0 225 (dk_at dksX4_wordHere_2 20 rfl rfl)
theorem dX4_wordHere_69 : decode cX4_wordHere 69 = .ok (.invokevirtual 281, 3) := dk_182 1 25 (dk_at dksX4_wordHere_3 0 rfl rfl)
theorem dX4_wordHere_72 : decode cX4_wordHere 72 = .ok (.ifCond .eq 8, 3) := dk_153 0 8 (dk_at dksX4_wordHere_3 3 rfl rfl)
theorem dX4_wordHere_75 : decode cX4_wordHere 75 = .ok (.bipush 112, 2) := dk_16 112 (dk_at dksX4_wordHere_3 6 rfl rfl)
theorem dX4_wordHere_77 : decode cX4_wordHere 77 = .ok (.goto 4, 3) := dk_167 0 4 (dk_at dksX4_wordHere_3 8 rfl rfl)
theorem dX4_wordHere_80 : decode cX4_wordHere 80 = .ok (.iconst 0, 1) := dk_3 (dk_at dksX4_wordHere_3 11 rfl rfl)
theorem dX4_wordHere_81 : decode cX4_wordHere 81 = .ok (.ireturn, 1) := dk_172 (dk_at dksX4_wordHere_3 12 rfl rfl)
abbrev cX4_emit : ByteArray := prog_22_method_30_code
def yX4_emit : MethodName := ⟨RX4, "emit", "(II)V"⟩
def dkwX4_emit_1 : List UInt8 := [180, 1, 39, 4, 96, 181, 1, 39, 177]
abbrev dktX4_emit_1 : List UInt8 := dkwX4_emit_1 ++ []
def dkwX4_emit_0 : List UInt8 := [42, 180, 0, 98, 42, 180, 1, 39, 27, 79, 42, 180, 0, 101, 42, 180, 1, 39, 28, 79, 42, 89]
abbrev dktX4_emit_0 : List UInt8 := dkwX4_emit_0 ++ dktX4_emit_1
theorem dksX4_emit_0 : cX4_emit.data.toList.drop 0 = dktX4_emit_0 := by decide +kernel
theorem dksX4_emit_1 : cX4_emit.data.toList.drop 22 = dktX4_emit_1 := dk_seg dksX4_emit_0 22 rfl rfl
theorem dX4_emit_0 : decode cX4_emit 0 = .ok (.aload_n 0, 1) := dk_42 (dk_at dksX4_emit_0 0 rfl rfl)
theorem dX4_emit_1 : decode cX4_emit 1 = .ok (.getfield 98, 3) := dk_180 0 98 (dk_at dksX4_emit_0 1 rfl rfl)
theorem dX4_emit_4 : decode cX4_emit 4 = .ok (.aload_n 0, 1) := dk_42 (dk_at dksX4_emit_0 4 rfl rfl)
theorem dX4_emit_5 : decode cX4_emit 5 = .ok (.getfield 295, 3) := dk_180 1 39 (dk_at dksX4_emit_0 5 rfl rfl)
theorem dX4_emit_8 : decode cX4_emit 8 = .ok (.iload_n 1, 1) := dk_27 (dk_at dksX4_emit_0 8 rfl rfl)
theorem dX4_emit_9 : decode cX4_emit 9 = .ok (.iastore, 1) := dk_79 (dk_at dksX4_emit_0 9 rfl rfl)
theorem dX4_emit_10 : decode cX4_emit 10 = .ok (.aload_n 0, 1) := dk_42 (dk_at dksX4_emit_0 10 rfl rfl)
theorem dX4_emit_11 : decode cX4_emit 11 = .ok (.getfield 101, 3) := dk_180 0 101 (dk_at dksX4_emit_0 11 rfl rfl)
theorem dX4_emit_14 : decode cX4_emit 14 = .ok (.aload_n 0, 1) := dk_42 (dk_at dksX4_emit_0 14 rfl rfl)
theorem dX4_emit_15 : decode cX4_emit 15 = .ok (.getfield 295, 3) := dk_180 1 39 (dk_at dksX4_emit_0 15 rfl rfl)
theorem dX4_emit_18 : decode cX4_emit 18 = .ok (.iload_n 2, 1) := dk_28 (dk_at dksX4_emit_0 18 rfl rfl)
theorem dX4_emit_19 : decode cX4_emit 19 = .ok (.iastore, 1) := dk_79 (dk_at dksX4_emit_0 19 rfl rfl)
theorem dX4_emit_20 : decode cX4_emit 20 = .ok (.aload_n 0, 1) := dk_42 (dk_at dksX4_emit_0 20 rfl rfl)
theorem dX4_emit_21 : decode cX4_emit 21 = .ok (.dup, 1) := dk_89 (dk_at dksX4_emit_0 21 rfl rfl)
theorem dX4_emit_22 : decode cX4_emit 22 = .ok (.getfield 295, 3) := dk_180 1 39 (dk_at dksX4_emit_1 0 rfl rfl)
theorem dX4_emit_25 : decode cX4_emit 25 = .ok (.iconst 1, 1) := dk_4 (dk_at dksX4_emit_1 3 rfl rfl)
theorem dX4_emit_26 : decode cX4_emit 26 = .ok (.iadd, 1) := dk_96 (dk_at dksX4_emit_1 4 rfl rfl)
theorem dX4_emit_27 : decode cX4_emit 27 = .ok (.putfield 295, 3) := dk_181 1 39 (dk_at dksX4_emit_1 5 rfl rfl)
theorem dX4_emit_30 : decode cX4_emit 30 = .ok (.return_, 1) := dk_177 (dk_at dksX4_emit_1 8 rfl rfl)
abbrev cX4_behindUnit : ByteArray := prog_22_method_37_code
def yX4_behindUnit : MethodName := ⟨RX4, "behindUnit", "()Z"⟩
def dkwX4_behindUnit_8 : List UInt8 := [182, 1, 28, 3, 172]
abbrev dktX4_behindUnit_8 : List UInt8 := dkwX4_behindUnit_8 ++ []
def dkwX4_behindUnit_7 : List UInt8 := [16, 7, 160, 0, 23, 42, 89, 180, 1, 105, 4, 100, 181, 1, 105, 42, 42, 16, 41, 182, 1, 79]
abbrev dktX4_behindUnit_7 : List UInt8 := dkwX4_behindUnit_7 ++ dktX4_behindUnit_8
def dkwX4_behindUnit_6 : List UInt8 := [182, 1, 19, 4, 172, 42, 89, 180, 1, 102, 4, 100, 181, 1, 102, 42, 180, 0, 104, 42, 180, 1, 102, 46]
abbrev dktX4_behindUnit_6 : List UInt8 := dkwX4_behindUnit_6 ++ dktX4_behindUnit_7
def dkwX4_behindUnit_5 : List UInt8 := [27, 4, 160, 0, 8, 16, 124, 167, 0, 11, 42, 42, 180, 0, 236, 182, 0, 239, 182, 1, 108, 42]
abbrev dktX4_behindUnit_5 : List UInt8 := dkwX4_behindUnit_5 ++ dktX4_behindUnit_6
def dkwX4_behindUnit_4 : List UInt8 := [46, 3, 182, 1, 120, 167, 255, 178, 27, 158, 0, 42, 42, 27, 27, 5, 160, 0, 8, 16, 38, 167, 0, 21]
abbrev dktX4_behindUnit_4 : List UInt8 := dkwX4_behindUnit_4 ++ dktX4_behindUnit_5
def dkwX4_behindUnit_3 : List UInt8 := [46, 6, 160, 0, 13, 42, 89, 180, 1, 105, 4, 100, 181, 1, 105, 42, 42, 180, 0, 107, 42, 180, 1, 102]
abbrev dktX4_behindUnit_3 : List UInt8 := dkwX4_behindUnit_3 ++ dktX4_behindUnit_4
def dkwX4_behindUnit_2 : List UInt8 := [100, 46, 27, 161, 0, 53, 42, 89, 180, 1, 102, 4, 100, 181, 1, 102, 42, 180, 0, 104, 42, 180, 1, 102]
abbrev dktX4_behindUnit_2 : List UInt8 := dkwX4_behindUnit_2 ++ dktX4_behindUnit_3
def dkwX4_behindUnit_1 : List UInt8 := [180, 0, 104, 42, 180, 1, 102, 4, 100, 46, 16, 6, 163, 0, 68, 42, 180, 0, 104, 42, 180, 1, 102, 4]
abbrev dktX4_behindUnit_1 : List UInt8 := dkwX4_behindUnit_1 ++ dktX4_behindUnit_2
def dkwX4_behindUnit_0 : List UInt8 := [42, 182, 1, 123, 60, 27, 7, 160, 0, 16, 42, 182, 1, 126, 153, 0, 9, 42, 182, 1, 22, 4, 172, 42]
abbrev dktX4_behindUnit_0 : List UInt8 := dkwX4_behindUnit_0 ++ dktX4_behindUnit_1
theorem dksX4_behindUnit_0 : cX4_behindUnit.data.toList.drop 0 = dktX4_behindUnit_0 := by decide +kernel
theorem dksX4_behindUnit_1 : cX4_behindUnit.data.toList.drop 24 = dktX4_behindUnit_1 := dk_seg dksX4_behindUnit_0 24 rfl rfl
theorem dksX4_behindUnit_2 : cX4_behindUnit.data.toList.drop 48 = dktX4_behindUnit_2 := dk_seg dksX4_behindUnit_1 24 rfl rfl
theorem dksX4_behindUnit_3 : cX4_behindUnit.data.toList.drop 72 = dktX4_behindUnit_3 := dk_seg dksX4_behindUnit_2 24 rfl rfl
theorem dksX4_behindUnit_4 : cX4_behindUnit.data.toList.drop 96 = dktX4_behindUnit_4 := dk_seg dksX4_behindUnit_3 24 rfl rfl
theorem dksX4_behindUnit_5 : cX4_behindUnit.data.toList.drop 120 = dktX4_behindUnit_5 := dk_seg dksX4_behindUnit_4 24 rfl rfl
theorem dksX4_behindUnit_6 : cX4_behindUnit.data.toList.drop 142 = dktX4_behindUnit_6 := dk_seg dksX4_behindUnit_5 22 rfl rfl
theorem dksX4_behindUnit_7 : cX4_behindUnit.data.toList.drop 166 = dktX4_behindUnit_7 := dk_seg dksX4_behindUnit_6 24 rfl rfl
theorem dksX4_behindUnit_8 : cX4_behindUnit.data.toList.drop 188 = dktX4_behindUnit_8 := dk_seg dksX4_behindUnit_7 22 rfl rfl
theorem dX4_behindUnit_0 : decode cX4_behindUnit 0 = .ok (.aload_n 0, 1) := dk_42 (dk_at dksX4_behindUnit_0 0 rfl rfl)
theorem dX4_behindUnit_1 : decode cX4_behindUnit 1 = .ok (.invokevirtual 379, 3) := dk_182 1 123 (dk_at dksX4_behindUnit_0 1 rfl rfl)
theorem dX4_behindUnit_4 : decode cX4_behindUnit 4 = .ok (.istore_n 1, 1) := dk_60 (dk_at dksX4_behindUnit_0 4 rfl rfl)
theorem dX4_behindUnit_5 : decode cX4_behindUnit 5 = .ok (.iload_n 1, 1) := dk_27 (dk_at dksX4_behindUnit_0 5 rfl rfl)
theorem dX4_behindUnit_6 : decode cX4_behindUnit 6 = .ok (.iconst 4, 1) := dk_7 (dk_at dksX4_behindUnit_0 6 rfl rfl)
theorem dX4_behindUnit_7 : decode cX4_behindUnit 7 = .ok (.if_icmp .ne 16, 3) := dk_160 0 16 (dk_at dksX4_behindUnit_0 7 rfl rfl)
theorem dX4_behindUnit_10 : decode cX4_behindUnit 10 = .ok (.aload_n 0, 1) := dk_42 (dk_at dksX4_behindUnit_0 10 rfl rfl)
theorem dX4_behindUnit_11 : decode cX4_behindUnit 11 = .ok (.invokevirtual 382, 3) := dk_182 1 126 (dk_at dksX4_behindUnit_0 11 rfl rfl)
theorem dX4_behindUnit_14 : decode cX4_behindUnit 14 = .ok (.ifCond .eq 9, 3) := dk_153 0 9 (dk_at dksX4_behindUnit_0 14 rfl rfl)
theorem dX4_behindUnit_17 : decode cX4_behindUnit 17 = .ok (.aload_n 0, 1) := dk_42 (dk_at dksX4_behindUnit_0 17 rfl rfl)
theorem dX4_behindUnit_18 : decode cX4_behindUnit 18 = .ok (.invokevirtual 278, 3) := dk_182 1 22 (dk_at dksX4_behindUnit_0 18 rfl rfl)
theorem dX4_behindUnit_21 : decode cX4_behindUnit 21 = .ok (.iconst 1, 1) := dk_4 (dk_at dksX4_behindUnit_0 21 rfl rfl)
theorem dX4_behindUnit_22 : decode cX4_behindUnit 22 = .ok (.ireturn, 1) := dk_172 (dk_at dksX4_behindUnit_0 22 rfl rfl)
theorem dX4_behindUnit_23 : decode cX4_behindUnit 23 = .ok (.aload_n 0, 1) := dk_42 (dk_at dksX4_behindUnit_0 23 rfl rfl)
theorem dX4_behindUnit_24 : decode cX4_behindUnit 24 = .ok (.getfield 104, 3) := dk_180 0 104 (dk_at dksX4_behindUnit_1 0 rfl rfl)
theorem dX4_behindUnit_27 : decode cX4_behindUnit 27 = .ok (.aload_n 0, 1) := dk_42 (dk_at dksX4_behindUnit_1 3 rfl rfl)
theorem dX4_behindUnit_28 : decode cX4_behindUnit 28 = .ok (.getfield 358, 3) := dk_180 1 102 (dk_at dksX4_behindUnit_1 4 rfl rfl)
theorem dX4_behindUnit_31 : decode cX4_behindUnit 31 = .ok (.iconst 1, 1) := dk_4 (dk_at dksX4_behindUnit_1 7 rfl rfl)
theorem dX4_behindUnit_32 : decode cX4_behindUnit 32 = .ok (.isub, 1) := dk_100 (dk_at dksX4_behindUnit_1 8 rfl rfl)
theorem dX4_behindUnit_33 : decode cX4_behindUnit 33 = .ok (.iaload, 1) := dk_46 (dk_at dksX4_behindUnit_1 9 rfl rfl)
theorem dX4_behindUnit_34 : decode cX4_behindUnit 34 = .ok (.bipush 6, 2) := dk_16 6 (dk_at dksX4_behindUnit_1 10 rfl rfl)
theorem dX4_behindUnit_36 : decode cX4_behindUnit 36 = .ok (.if_icmp .gt 68, 3) := dk_163 0 68 (dk_at dksX4_behindUnit_1 12 rfl rfl)
theorem dX4_behindUnit_39 : decode cX4_behindUnit 39 = .ok (.aload_n 0, 1) := dk_42 (dk_at dksX4_behindUnit_1 15 rfl rfl)
theorem dX4_behindUnit_40 : decode cX4_behindUnit 40 = .ok (.getfield 104, 3) := dk_180 0 104 (dk_at dksX4_behindUnit_1 16 rfl rfl)
theorem dX4_behindUnit_43 : decode cX4_behindUnit 43 = .ok (.aload_n 0, 1) := dk_42 (dk_at dksX4_behindUnit_1 19 rfl rfl)
theorem dX4_behindUnit_44 : decode cX4_behindUnit 44 = .ok (.getfield 358, 3) := dk_180 1 102 (dk_at dksX4_behindUnit_1 20 rfl rfl)
theorem dX4_behindUnit_47 : decode cX4_behindUnit 47 = .ok (.iconst 1, 1) := dk_4 (dk_at dksX4_behindUnit_1 23 rfl rfl)
theorem dX4_behindUnit_48 : decode cX4_behindUnit 48 = .ok (.isub, 1) := dk_100 (dk_at dksX4_behindUnit_2 0 rfl rfl)
theorem dX4_behindUnit_49 : decode cX4_behindUnit 49 = .ok (.iaload, 1) := dk_46 (dk_at dksX4_behindUnit_2 1 rfl rfl)
theorem dX4_behindUnit_50 : decode cX4_behindUnit 50 = .ok (.iload_n 1, 1) := dk_27 (dk_at dksX4_behindUnit_2 2 rfl rfl)
theorem dX4_behindUnit_51 : decode cX4_behindUnit 51 = .ok (.if_icmp .lt 53, 3) := dk_161 0 53 (dk_at dksX4_behindUnit_2 3 rfl rfl)
theorem dX4_behindUnit_54 : decode cX4_behindUnit 54 = .ok (.aload_n 0, 1) := dk_42 (dk_at dksX4_behindUnit_2 6 rfl rfl)
theorem dX4_behindUnit_55 : decode cX4_behindUnit 55 = .ok (.dup, 1) := dk_89 (dk_at dksX4_behindUnit_2 7 rfl rfl)
theorem dX4_behindUnit_56 : decode cX4_behindUnit 56 = .ok (.getfield 358, 3) := dk_180 1 102 (dk_at dksX4_behindUnit_2 8 rfl rfl)
theorem dX4_behindUnit_59 : decode cX4_behindUnit 59 = .ok (.iconst 1, 1) := dk_4 (dk_at dksX4_behindUnit_2 11 rfl rfl)
theorem dX4_behindUnit_60 : decode cX4_behindUnit 60 = .ok (.isub, 1) := dk_100 (dk_at dksX4_behindUnit_2 12 rfl rfl)
theorem dX4_behindUnit_61 : decode cX4_behindUnit 61 = .ok (.putfield 358, 3) := dk_181 1 102 (dk_at dksX4_behindUnit_2 13 rfl rfl)
theorem dX4_behindUnit_64 : decode cX4_behindUnit 64 = .ok (.aload_n 0, 1) := dk_42 (dk_at dksX4_behindUnit_2 16 rfl rfl)
theorem dX4_behindUnit_65 : decode cX4_behindUnit 65 = .ok (.getfield 104, 3) := dk_180 0 104 (dk_at dksX4_behindUnit_2 17 rfl rfl)
theorem dX4_behindUnit_68 : decode cX4_behindUnit 68 = .ok (.aload_n 0, 1) := dk_42 (dk_at dksX4_behindUnit_2 20 rfl rfl)
theorem dX4_behindUnit_69 : decode cX4_behindUnit 69 = .ok (.getfield 358, 3) := dk_180 1 102 (dk_at dksX4_behindUnit_2 21 rfl rfl)
theorem dX4_behindUnit_72 : decode cX4_behindUnit 72 = .ok (.iaload, 1) := dk_46 (dk_at dksX4_behindUnit_3 0 rfl rfl)
theorem dX4_behindUnit_73 : decode cX4_behindUnit 73 = .ok (.iconst 3, 1) := dk_6 (dk_at dksX4_behindUnit_3 1 rfl rfl)
theorem dX4_behindUnit_74 : decode cX4_behindUnit 74 = .ok (.if_icmp .ne 13, 3) := dk_160 0 13 (dk_at dksX4_behindUnit_3 2 rfl rfl)
theorem dX4_behindUnit_77 : decode cX4_behindUnit 77 = .ok (.aload_n 0, 1) := dk_42 (dk_at dksX4_behindUnit_3 5 rfl rfl)
theorem dX4_behindUnit_78 : decode cX4_behindUnit 78 = .ok (.dup, 1) := dk_89 (dk_at dksX4_behindUnit_3 6 rfl rfl)
theorem dX4_behindUnit_79 : decode cX4_behindUnit 79 = .ok (.getfield 361, 3) := dk_180 1 105 (dk_at dksX4_behindUnit_3 7 rfl rfl)
theorem dX4_behindUnit_82 : decode cX4_behindUnit 82 = .ok (.iconst 1, 1) := dk_4 (dk_at dksX4_behindUnit_3 10 rfl rfl)
theorem dX4_behindUnit_83 : decode cX4_behindUnit 83 = .ok (.isub, 1) := dk_100 (dk_at dksX4_behindUnit_3 11 rfl rfl)
theorem dX4_behindUnit_84 : decode cX4_behindUnit 84 = .ok (.putfield 361, 3) := dk_181 1 105 (dk_at dksX4_behindUnit_3 12 rfl rfl)
theorem dX4_behindUnit_87 : decode cX4_behindUnit 87 = .ok (.aload_n 0, 1) := dk_42 (dk_at dksX4_behindUnit_3 15 rfl rfl)
theorem dX4_behindUnit_88 : decode cX4_behindUnit 88 = .ok (.aload_n 0, 1) := dk_42 (dk_at dksX4_behindUnit_3 16 rfl rfl)
theorem dX4_behindUnit_89 : decode cX4_behindUnit 89 = .ok (.getfield 107, 3) := dk_180 0 107 (dk_at dksX4_behindUnit_3 17 rfl rfl)
theorem dX4_behindUnit_92 : decode cX4_behindUnit 92 = .ok (.aload_n 0, 1) := dk_42 (dk_at dksX4_behindUnit_3 20 rfl rfl)
theorem dX4_behindUnit_93 : decode cX4_behindUnit 93 = .ok (.getfield 358, 3) := dk_180 1 102 (dk_at dksX4_behindUnit_3 21 rfl rfl)
theorem dX4_behindUnit_96 : decode cX4_behindUnit 96 = .ok (.iaload, 1) := dk_46 (dk_at dksX4_behindUnit_4 0 rfl rfl)
theorem dX4_behindUnit_97 : decode cX4_behindUnit 97 = .ok (.iconst 0, 1) := dk_3 (dk_at dksX4_behindUnit_4 1 rfl rfl)
theorem dX4_behindUnit_98 : decode cX4_behindUnit 98 = .ok (.invokevirtual 376, 3) := dk_182 1 120 (dk_at dksX4_behindUnit_4 2 rfl rfl)
theorem dX4_behindUnit_101 : decode cX4_behindUnit 101 = .ok (.goto (-78), 3) := dk_167 255 178 (dk_at dksX4_behindUnit_4 5 rfl rfl)
theorem dX4_behindUnit_104 : decode cX4_behindUnit 104 = .ok (.iload_n 1, 1) := dk_27 (dk_at dksX4_behindUnit_4 8 rfl rfl)
theorem dX4_behindUnit_105 : decode cX4_behindUnit 105 = .ok (.ifCond .le 42, 3) := dk_158 0 42 (dk_at dksX4_behindUnit_4 9 rfl rfl)
theorem dX4_behindUnit_108 : decode cX4_behindUnit 108 = .ok (.aload_n 0, 1) := dk_42 (dk_at dksX4_behindUnit_4 12 rfl rfl)
theorem dX4_behindUnit_109 : decode cX4_behindUnit 109 = .ok (.iload_n 1, 1) := dk_27 (dk_at dksX4_behindUnit_4 13 rfl rfl)
theorem dX4_behindUnit_110 : decode cX4_behindUnit 110 = .ok (.iload_n 1, 1) := dk_27 (dk_at dksX4_behindUnit_4 14 rfl rfl)
theorem dX4_behindUnit_111 : decode cX4_behindUnit 111 = .ok (.iconst 2, 1) := dk_5 (dk_at dksX4_behindUnit_4 15 rfl rfl)
theorem dX4_behindUnit_112 : decode cX4_behindUnit 112 = .ok (.if_icmp .ne 8, 3) := dk_160 0 8 (dk_at dksX4_behindUnit_4 16 rfl rfl)
theorem dX4_behindUnit_115 : decode cX4_behindUnit 115 = .ok (.bipush 38, 2) := dk_16 38 (dk_at dksX4_behindUnit_4 19 rfl rfl)
theorem dX4_behindUnit_117 : decode cX4_behindUnit 117 = .ok (.goto 21, 3) := dk_167 0 21 (dk_at dksX4_behindUnit_4 21 rfl rfl)
theorem dX4_behindUnit_120 : decode cX4_behindUnit 120 = .ok (.iload_n 1, 1) := dk_27 (dk_at dksX4_behindUnit_5 0 rfl rfl)
theorem dX4_behindUnit_121 : decode cX4_behindUnit 121 = .ok (.iconst 1, 1) := dk_4 (dk_at dksX4_behindUnit_5 1 rfl rfl)
theorem dX4_behindUnit_122 : decode cX4_behindUnit 122 = .ok (.if_icmp .ne 8, 3) := dk_160 0 8 (dk_at dksX4_behindUnit_5 2 rfl rfl)
theorem dX4_behindUnit_125 : decode cX4_behindUnit 125 = .ok (.bipush 124, 2) := dk_16 124 (dk_at dksX4_behindUnit_5 5 rfl rfl)
theorem dX4_behindUnit_127 : decode cX4_behindUnit 127 = .ok (.goto 11, 3) := dk_167 0 11 (dk_at dksX4_behindUnit_5 7 rfl rfl)
theorem dX4_behindUnit_130 : decode cX4_behindUnit 130 = .ok (.aload_n 0, 1) := dk_42 (dk_at dksX4_behindUnit_5 10 rfl rfl)
theorem dX4_behindUnit_131 : decode cX4_behindUnit 131 = .ok (.aload_n 0, 1) := dk_42 (dk_at dksX4_behindUnit_5 11 rfl rfl)
theorem dX4_behindUnit_132 : decode cX4_behindUnit 132 = .ok (.getfield 236, 3) := dk_180 0 236 (dk_at dksX4_behindUnit_5 12 rfl rfl)
theorem dX4_behindUnit_135 : decode cX4_behindUnit 135 = .ok (.invokevirtual 239, 3) := dk_182 0 239 (dk_at dksX4_behindUnit_5 15 rfl rfl)
theorem dX4_behindUnit_138 : decode cX4_behindUnit 138 = .ok (.invokevirtual 364, 3) := dk_182 1 108 (dk_at dksX4_behindUnit_5 18 rfl rfl)
theorem dX4_behindUnit_141 : decode cX4_behindUnit 141 = .ok (.aload_n 0, 1) := dk_42 (dk_at dksX4_behindUnit_5 21 rfl rfl)
theorem dX4_behindUnit_142 : decode cX4_behindUnit 142 = .ok (.invokevirtual 275, 3) := dk_182 1 19 (dk_at dksX4_behindUnit_6 0 rfl rfl)
theorem dX4_behindUnit_145 : decode cX4_behindUnit 145 = .ok (.iconst 1, 1) := dk_4 (dk_at dksX4_behindUnit_6 3 rfl rfl)
theorem dX4_behindUnit_146 : decode cX4_behindUnit 146 = .ok (.ireturn, 1) := dk_172 (dk_at dksX4_behindUnit_6 4 rfl rfl)
theorem dX4_behindUnit_147 : decode cX4_behindUnit 147 = .ok (.aload_n 0, 1) := dk_42 (dk_at dksX4_behindUnit_6 5 rfl rfl)
theorem dX4_behindUnit_148 : decode cX4_behindUnit 148 = .ok (.dup, 1) := dk_89 (dk_at dksX4_behindUnit_6 6 rfl rfl)
theorem dX4_behindUnit_149 : decode cX4_behindUnit 149 = .ok (.getfield 358, 3) := dk_180 1 102 (dk_at dksX4_behindUnit_6 7 rfl rfl)
theorem dX4_behindUnit_152 : decode cX4_behindUnit 152 = .ok (.iconst 1, 1) := dk_4 (dk_at dksX4_behindUnit_6 10 rfl rfl)
theorem dX4_behindUnit_153 : decode cX4_behindUnit 153 = .ok (.isub, 1) := dk_100 (dk_at dksX4_behindUnit_6 11 rfl rfl)
theorem dX4_behindUnit_154 : decode cX4_behindUnit 154 = .ok (.putfield 358, 3) := dk_181 1 102 (dk_at dksX4_behindUnit_6 12 rfl rfl)
theorem dX4_behindUnit_157 : decode cX4_behindUnit 157 = .ok (.aload_n 0, 1) := dk_42 (dk_at dksX4_behindUnit_6 15 rfl rfl)
theorem dX4_behindUnit_158 : decode cX4_behindUnit 158 = .ok (.getfield 104, 3) := dk_180 0 104 (dk_at dksX4_behindUnit_6 16 rfl rfl)
theorem dX4_behindUnit_161 : decode cX4_behindUnit 161 = .ok (.aload_n 0, 1) := dk_42 (dk_at dksX4_behindUnit_6 19 rfl rfl)
theorem dX4_behindUnit_162 : decode cX4_behindUnit 162 = .ok (.getfield 358, 3) := dk_180 1 102 (dk_at dksX4_behindUnit_6 20 rfl rfl)
theorem dX4_behindUnit_165 : decode cX4_behindUnit 165 = .ok (.iaload, 1) := dk_46 (dk_at dksX4_behindUnit_6 23 rfl rfl)
theorem dX4_behindUnit_166 : decode cX4_behindUnit 166 = .ok (.bipush 7, 2) := dk_16 7 (dk_at dksX4_behindUnit_7 0 rfl rfl)
theorem dX4_behindUnit_168 : decode cX4_behindUnit 168 = .ok (.if_icmp .ne 23, 3) := dk_160 0 23 (dk_at dksX4_behindUnit_7 2 rfl rfl)
theorem dX4_behindUnit_171 : decode cX4_behindUnit 171 = .ok (.aload_n 0, 1) := dk_42 (dk_at dksX4_behindUnit_7 5 rfl rfl)
theorem dX4_behindUnit_172 : decode cX4_behindUnit 172 = .ok (.dup, 1) := dk_89 (dk_at dksX4_behindUnit_7 6 rfl rfl)
theorem dX4_behindUnit_173 : decode cX4_behindUnit 173 = .ok (.getfield 361, 3) := dk_180 1 105 (dk_at dksX4_behindUnit_7 7 rfl rfl)
theorem dX4_behindUnit_176 : decode cX4_behindUnit 176 = .ok (.iconst 1, 1) := dk_4 (dk_at dksX4_behindUnit_7 10 rfl rfl)
theorem dX4_behindUnit_177 : decode cX4_behindUnit 177 = .ok (.isub, 1) := dk_100 (dk_at dksX4_behindUnit_7 11 rfl rfl)
theorem dX4_behindUnit_178 : decode cX4_behindUnit 178 = .ok (.putfield 361, 3) := dk_181 1 105 (dk_at dksX4_behindUnit_7 12 rfl rfl)
theorem dX4_behindUnit_181 : decode cX4_behindUnit 181 = .ok (.aload_n 0, 1) := dk_42 (dk_at dksX4_behindUnit_7 15 rfl rfl)
theorem dX4_behindUnit_182 : decode cX4_behindUnit 182 = .ok (.aload_n 0, 1) := dk_42 (dk_at dksX4_behindUnit_7 16 rfl rfl)
theorem dX4_behindUnit_183 : decode cX4_behindUnit 183 = .ok (.bipush 41, 2) := dk_16 41 (dk_at dksX4_behindUnit_7 17 rfl rfl)
theorem dX4_behindUnit_185 : decode cX4_behindUnit 185 = .ok (.invokevirtual 335, 3) := dk_182 1 79 (dk_at dksX4_behindUnit_7 19 rfl rfl)
theorem dX4_behindUnit_188 : decode cX4_behindUnit 188 = .ok (.invokevirtual 284, 3) := dk_182 1 28 (dk_at dksX4_behindUnit_8 0 rfl rfl)
theorem dX4_behindUnit_191 : decode cX4_behindUnit 191 = .ok (.iconst 0, 1) := dk_3 (dk_at dksX4_behindUnit_8 3 rfl rfl)
theorem dX4_behindUnit_192 : decode cX4_behindUnit 192 = .ok (.ireturn, 1) := dk_172 (dk_at dksX4_behindUnit_8 4 rfl rfl)
abbrev cX4_rankHere : ByteArray := prog_22_method_35_code
def yX4_rankHere : MethodName := ⟨RX4, "rankHere", "()I"⟩
def dkwX4_rankHere_4 : List UInt8 := [182, 1, 79, 153, 0, 8, 16, 6, 167, 0, 4, 3, 172]
abbrev dktX4_rankHere_4 : List UInt8 := dkwX4_rankHere_4 ++ []
def dkwX4_rankHere_3 : List UInt8 := [172, 42, 16, 42, 182, 1, 79, 154, 0, 21, 42, 16, 47, 182, 1, 79, 154, 0, 12, 42, 16, 37]
abbrev dktX4_rankHere_3 : List UInt8 := dkwX4_rankHere_3 ++ dktX4_rankHere_4
def dkwX4_rankHere_2 : List UInt8 := [153, 0, 5, 7, 172, 42, 16, 43, 182, 1, 79, 154, 0, 12, 42, 16, 45, 182, 1, 79, 153, 0, 5, 8]
abbrev dktX4_rankHere_2 : List UInt8 := dkwX4_rankHere_2 ++ dktX4_rankHere_3
def dkwX4_rankHere_1 : List UInt8 := [42, 16, 60, 182, 1, 79, 154, 0, 21, 42, 16, 62, 182, 1, 79, 154, 0, 12, 42, 16, 61, 182, 1, 79]
abbrev dktX4_rankHere_1 : List UInt8 := dkwX4_rankHere_1 ++ dktX4_rankHere_2
def dkwX4_rankHere_0 : List UInt8 := [42, 20, 0, 229, 182, 1, 25, 153, 0, 5, 5, 172, 42, 20, 0, 227, 182, 1, 25, 153, 0, 5, 4, 172]
abbrev dktX4_rankHere_0 : List UInt8 := dkwX4_rankHere_0 ++ dktX4_rankHere_1
theorem dksX4_rankHere_0 : cX4_rankHere.data.toList.drop 0 = dktX4_rankHere_0 := by decide +kernel
theorem dksX4_rankHere_1 : cX4_rankHere.data.toList.drop 24 = dktX4_rankHere_1 := dk_seg dksX4_rankHere_0 24 rfl rfl
theorem dksX4_rankHere_2 : cX4_rankHere.data.toList.drop 48 = dktX4_rankHere_2 := dk_seg dksX4_rankHere_1 24 rfl rfl
theorem dksX4_rankHere_3 : cX4_rankHere.data.toList.drop 72 = dktX4_rankHere_3 := dk_seg dksX4_rankHere_2 24 rfl rfl
theorem dksX4_rankHere_4 : cX4_rankHere.data.toList.drop 94 = dktX4_rankHere_4 := dk_seg dksX4_rankHere_3 22 rfl rfl
theorem dX4_rankHere_0 : decode cX4_rankHere 0 = .ok (.aload_n 0, 1) := dk_42 (dk_at dksX4_rankHere_0 0 rfl rfl)
theorem dX4_rankHere_1 : decode cX4_rankHere 1 = .ok (.ldc2_w 229, 3) := dk_20 0 229 (dk_at dksX4_rankHere_0 1 rfl rfl)
theorem dX4_rankHere_4 : decode cX4_rankHere 4 = .ok (.invokevirtual 281, 3) := dk_182 1 25 (dk_at dksX4_rankHere_0 4 rfl rfl)
theorem dX4_rankHere_7 : decode cX4_rankHere 7 = .ok (.ifCond .eq 5, 3) := dk_153 0 5 (dk_at dksX4_rankHere_0 7 rfl rfl)
theorem dX4_rankHere_10 : decode cX4_rankHere 10 = .ok (.iconst 2, 1) := dk_5 (dk_at dksX4_rankHere_0 10 rfl rfl)
theorem dX4_rankHere_11 : decode cX4_rankHere 11 = .ok (.ireturn, 1) := dk_172 (dk_at dksX4_rankHere_0 11 rfl rfl)
theorem dX4_rankHere_12 : decode cX4_rankHere 12 = .ok (.aload_n 0, 1) := dk_42 (dk_at dksX4_rankHere_0 12 rfl rfl)
theorem dX4_rankHere_13 : decode cX4_rankHere 13 = .ok (.ldc2_w 227, 3) := dk_20 0 227 (dk_at dksX4_rankHere_0 13 rfl rfl)
theorem dX4_rankHere_16 : decode cX4_rankHere 16 = .ok (.invokevirtual 281, 3) := dk_182 1 25 (dk_at dksX4_rankHere_0 16 rfl rfl)
theorem dX4_rankHere_19 : decode cX4_rankHere 19 = .ok (.ifCond .eq 5, 3) := dk_153 0 5 (dk_at dksX4_rankHere_0 19 rfl rfl)
theorem dX4_rankHere_22 : decode cX4_rankHere 22 = .ok (.iconst 1, 1) := dk_4 (dk_at dksX4_rankHere_0 22 rfl rfl)
theorem dX4_rankHere_23 : decode cX4_rankHere 23 = .ok (.ireturn, 1) := dk_172 (dk_at dksX4_rankHere_0 23 rfl rfl)
theorem dX4_rankHere_24 : decode cX4_rankHere 24 = .ok (.aload_n 0, 1) := dk_42 (dk_at dksX4_rankHere_1 0 rfl rfl)
theorem dX4_rankHere_25 : decode cX4_rankHere 25 = .ok (.bipush 60, 2) := dk_16 60 (dk_at dksX4_rankHere_1 1 rfl rfl)
theorem dX4_rankHere_27 : decode cX4_rankHere 27 = .ok (.invokevirtual 335, 3) := dk_182 1 79 (dk_at dksX4_rankHere_1 3 rfl rfl)
theorem dX4_rankHere_30 : decode cX4_rankHere 30 = .ok (.ifCond .ne 21, 3) := dk_154 0 21 (dk_at dksX4_rankHere_1 6 rfl rfl)
theorem dX4_rankHere_33 : decode cX4_rankHere 33 = .ok (.aload_n 0, 1) := dk_42 (dk_at dksX4_rankHere_1 9 rfl rfl)
theorem dX4_rankHere_34 : decode cX4_rankHere 34 = .ok (.bipush 62, 2) := dk_16 62 (dk_at dksX4_rankHere_1 10 rfl rfl)
theorem dX4_rankHere_36 : decode cX4_rankHere 36 = .ok (.invokevirtual 335, 3) := dk_182 1 79 (dk_at dksX4_rankHere_1 12 rfl rfl)
theorem dX4_rankHere_39 : decode cX4_rankHere 39 = .ok (.ifCond .ne 12, 3) := dk_154 0 12 (dk_at dksX4_rankHere_1 15 rfl rfl)
theorem dX4_rankHere_42 : decode cX4_rankHere 42 = .ok (.aload_n 0, 1) := dk_42 (dk_at dksX4_rankHere_1 18 rfl rfl)
theorem dX4_rankHere_43 : decode cX4_rankHere 43 = .ok (.bipush 61, 2) := dk_16 61 (dk_at dksX4_rankHere_1 19 rfl rfl)
theorem dX4_rankHere_45 : decode cX4_rankHere 45 = .ok (.invokevirtual 335, 3) := dk_182 1 79 (dk_at dksX4_rankHere_1 21 rfl rfl)
theorem dX4_rankHere_48 : decode cX4_rankHere 48 = .ok (.ifCond .eq 5, 3) := dk_153 0 5 (dk_at dksX4_rankHere_2 0 rfl rfl)
theorem dX4_rankHere_51 : decode cX4_rankHere 51 = .ok (.iconst 4, 1) := dk_7 (dk_at dksX4_rankHere_2 3 rfl rfl)
theorem dX4_rankHere_52 : decode cX4_rankHere 52 = .ok (.ireturn, 1) := dk_172 (dk_at dksX4_rankHere_2 4 rfl rfl)
theorem dX4_rankHere_53 : decode cX4_rankHere 53 = .ok (.aload_n 0, 1) := dk_42 (dk_at dksX4_rankHere_2 5 rfl rfl)
theorem dX4_rankHere_54 : decode cX4_rankHere 54 = .ok (.bipush 43, 2) := dk_16 43 (dk_at dksX4_rankHere_2 6 rfl rfl)
theorem dX4_rankHere_56 : decode cX4_rankHere 56 = .ok (.invokevirtual 335, 3) := dk_182 1 79 (dk_at dksX4_rankHere_2 8 rfl rfl)
theorem dX4_rankHere_59 : decode cX4_rankHere 59 = .ok (.ifCond .ne 12, 3) := dk_154 0 12 (dk_at dksX4_rankHere_2 11 rfl rfl)
theorem dX4_rankHere_62 : decode cX4_rankHere 62 = .ok (.aload_n 0, 1) := dk_42 (dk_at dksX4_rankHere_2 14 rfl rfl)
theorem dX4_rankHere_63 : decode cX4_rankHere 63 = .ok (.bipush 45, 2) := dk_16 45 (dk_at dksX4_rankHere_2 15 rfl rfl)
theorem dX4_rankHere_65 : decode cX4_rankHere 65 = .ok (.invokevirtual 335, 3) := dk_182 1 79 (dk_at dksX4_rankHere_2 17 rfl rfl)
theorem dX4_rankHere_68 : decode cX4_rankHere 68 = .ok (.ifCond .eq 5, 3) := dk_153 0 5 (dk_at dksX4_rankHere_2 20 rfl rfl)
theorem dX4_rankHere_71 : decode cX4_rankHere 71 = .ok (.iconst 5, 1) := dk_8 (dk_at dksX4_rankHere_2 23 rfl rfl)
theorem dX4_rankHere_72 : decode cX4_rankHere 72 = .ok (.ireturn, 1) := dk_172 (dk_at dksX4_rankHere_3 0 rfl rfl)
theorem dX4_rankHere_73 : decode cX4_rankHere 73 = .ok (.aload_n 0, 1) := dk_42 (dk_at dksX4_rankHere_3 1 rfl rfl)
theorem dX4_rankHere_74 : decode cX4_rankHere 74 = .ok (.bipush 42, 2) := dk_16 42 (dk_at dksX4_rankHere_3 2 rfl rfl)
theorem dX4_rankHere_76 : decode cX4_rankHere 76 = .ok (.invokevirtual 335, 3) := dk_182 1 79 (dk_at dksX4_rankHere_3 4 rfl rfl)
theorem dX4_rankHere_79 : decode cX4_rankHere 79 = .ok (.ifCond .ne 21, 3) := dk_154 0 21 (dk_at dksX4_rankHere_3 7 rfl rfl)
theorem dX4_rankHere_82 : decode cX4_rankHere 82 = .ok (.aload_n 0, 1) := dk_42 (dk_at dksX4_rankHere_3 10 rfl rfl)
theorem dX4_rankHere_83 : decode cX4_rankHere 83 = .ok (.bipush 47, 2) := dk_16 47 (dk_at dksX4_rankHere_3 11 rfl rfl)
theorem dX4_rankHere_85 : decode cX4_rankHere 85 = .ok (.invokevirtual 335, 3) := dk_182 1 79 (dk_at dksX4_rankHere_3 13 rfl rfl)
theorem dX4_rankHere_88 : decode cX4_rankHere 88 = .ok (.ifCond .ne 12, 3) := dk_154 0 12 (dk_at dksX4_rankHere_3 16 rfl rfl)
theorem dX4_rankHere_91 : decode cX4_rankHere 91 = .ok (.aload_n 0, 1) := dk_42 (dk_at dksX4_rankHere_3 19 rfl rfl)
theorem dX4_rankHere_92 : decode cX4_rankHere 92 = .ok (.bipush 37, 2) := dk_16 37 (dk_at dksX4_rankHere_3 20 rfl rfl)
theorem dX4_rankHere_94 : decode cX4_rankHere 94 = .ok (.invokevirtual 335, 3) := dk_182 1 79 (dk_at dksX4_rankHere_4 0 rfl rfl)
theorem dX4_rankHere_97 : decode cX4_rankHere 97 = .ok (.ifCond .eq 8, 3) := dk_153 0 8 (dk_at dksX4_rankHere_4 3 rfl rfl)
theorem dX4_rankHere_100 : decode cX4_rankHere 100 = .ok (.bipush 6, 2) := dk_16 6 (dk_at dksX4_rankHere_4 6 rfl rfl)
theorem dX4_rankHere_102 : decode cX4_rankHere 102 = .ok (.goto 4, 3) := dk_167 0 4 (dk_at dksX4_rankHere_4 8 rfl rfl)
theorem dX4_rankHere_105 : decode cX4_rankHere 105 = .ok (.iconst 0, 1) := dk_3 (dk_at dksX4_rankHere_4 11 rfl rfl)
theorem dX4_rankHere_106 : decode cX4_rankHere 106 = .ok (.ireturn, 1) := dk_172 (dk_at dksX4_rankHere_4 12 rfl rfl)
abbrev cX4_isCompared : ByteArray := prog_22_method_36_code
def yX4_isCompared : MethodName := ⟨RX4, "isCompared", "()Z"⟩
def dkwX4_isCompared_2 : List UInt8 := [167, 0, 4, 3, 172]
abbrev dktX4_isCompared_2 : List UInt8 := dkwX4_isCompared_2 ++ []
def dkwX4_isCompared_1 : List UInt8 := [16, 6, 160, 0, 9, 132, 1, 255, 167, 255, 232, 42, 180, 0, 104, 27, 46, 7, 160, 0, 7, 4]
abbrev dktX4_isCompared_1 : List UInt8 := dkwX4_isCompared_1 ++ dktX4_isCompared_2
def dkwX4_isCompared_0 : List UInt8 := [42, 180, 1, 102, 4, 100, 60, 42, 180, 0, 104, 27, 46, 8, 159, 0, 14, 42, 180, 0, 104, 27, 46]
abbrev dktX4_isCompared_0 : List UInt8 := dkwX4_isCompared_0 ++ dktX4_isCompared_1
theorem dksX4_isCompared_0 : cX4_isCompared.data.toList.drop 0 = dktX4_isCompared_0 := by decide +kernel
theorem dksX4_isCompared_1 : cX4_isCompared.data.toList.drop 23 = dktX4_isCompared_1 := dk_seg dksX4_isCompared_0 23 rfl rfl
theorem dksX4_isCompared_2 : cX4_isCompared.data.toList.drop 45 = dktX4_isCompared_2 := dk_seg dksX4_isCompared_1 22 rfl rfl
theorem dX4_isCompared_0 : decode cX4_isCompared 0 = .ok (.aload_n 0, 1) := dk_42 (dk_at dksX4_isCompared_0 0 rfl rfl)
theorem dX4_isCompared_1 : decode cX4_isCompared 1 = .ok (.getfield 358, 3) := dk_180 1 102 (dk_at dksX4_isCompared_0 1 rfl rfl)
theorem dX4_isCompared_4 : decode cX4_isCompared 4 = .ok (.iconst 1, 1) := dk_4 (dk_at dksX4_isCompared_0 4 rfl rfl)
theorem dX4_isCompared_5 : decode cX4_isCompared 5 = .ok (.isub, 1) := dk_100 (dk_at dksX4_isCompared_0 5 rfl rfl)
theorem dX4_isCompared_6 : decode cX4_isCompared 6 = .ok (.istore_n 1, 1) := dk_60 (dk_at dksX4_isCompared_0 6 rfl rfl)
theorem dX4_isCompared_7 : decode cX4_isCompared 7 = .ok (.aload_n 0, 1) := dk_42 (dk_at dksX4_isCompared_0 7 rfl rfl)
theorem dX4_isCompared_8 : decode cX4_isCompared 8 = .ok (.getfield 104, 3) := dk_180 0 104 (dk_at dksX4_isCompared_0 8 rfl rfl)
theorem dX4_isCompared_11 : decode cX4_isCompared 11 = .ok (.iload_n 1, 1) := dk_27 (dk_at dksX4_isCompared_0 11 rfl rfl)
theorem dX4_isCompared_12 : decode cX4_isCompared 12 = .ok (.iaload, 1) := dk_46 (dk_at dksX4_isCompared_0 12 rfl rfl)
theorem dX4_isCompared_13 : decode cX4_isCompared 13 = .ok (.iconst 5, 1) := dk_8 (dk_at dksX4_isCompared_0 13 rfl rfl)
theorem dX4_isCompared_14 : decode cX4_isCompared 14 = .ok (.if_icmp .eq 14, 3) := dk_159 0 14 (dk_at dksX4_isCompared_0 14 rfl rfl)
theorem dX4_isCompared_17 : decode cX4_isCompared 17 = .ok (.aload_n 0, 1) := dk_42 (dk_at dksX4_isCompared_0 17 rfl rfl)
theorem dX4_isCompared_18 : decode cX4_isCompared 18 = .ok (.getfield 104, 3) := dk_180 0 104 (dk_at dksX4_isCompared_0 18 rfl rfl)
theorem dX4_isCompared_21 : decode cX4_isCompared 21 = .ok (.iload_n 1, 1) := dk_27 (dk_at dksX4_isCompared_0 21 rfl rfl)
theorem dX4_isCompared_22 : decode cX4_isCompared 22 = .ok (.iaload, 1) := dk_46 (dk_at dksX4_isCompared_0 22 rfl rfl)
theorem dX4_isCompared_23 : decode cX4_isCompared 23 = .ok (.bipush 6, 2) := dk_16 6 (dk_at dksX4_isCompared_1 0 rfl rfl)
theorem dX4_isCompared_25 : decode cX4_isCompared 25 = .ok (.if_icmp .ne 9, 3) := dk_160 0 9 (dk_at dksX4_isCompared_1 2 rfl rfl)
theorem dX4_isCompared_28 : decode cX4_isCompared 28 = .ok (.iinc 1 (-1), 3) := dk_132 1 255 (dk_at dksX4_isCompared_1 5 rfl rfl)
theorem dX4_isCompared_31 : decode cX4_isCompared 31 = .ok (.goto (-24), 3) := dk_167 255 232 (dk_at dksX4_isCompared_1 8 rfl rfl)
theorem dX4_isCompared_34 : decode cX4_isCompared 34 = .ok (.aload_n 0, 1) := dk_42 (dk_at dksX4_isCompared_1 11 rfl rfl)
theorem dX4_isCompared_35 : decode cX4_isCompared 35 = .ok (.getfield 104, 3) := dk_180 0 104 (dk_at dksX4_isCompared_1 12 rfl rfl)
theorem dX4_isCompared_38 : decode cX4_isCompared 38 = .ok (.iload_n 1, 1) := dk_27 (dk_at dksX4_isCompared_1 15 rfl rfl)
theorem dX4_isCompared_39 : decode cX4_isCompared 39 = .ok (.iaload, 1) := dk_46 (dk_at dksX4_isCompared_1 16 rfl rfl)
theorem dX4_isCompared_40 : decode cX4_isCompared 40 = .ok (.iconst 4, 1) := dk_7 (dk_at dksX4_isCompared_1 17 rfl rfl)
theorem dX4_isCompared_41 : decode cX4_isCompared 41 = .ok (.if_icmp .ne 7, 3) := dk_160 0 7 (dk_at dksX4_isCompared_1 18 rfl rfl)
theorem dX4_isCompared_44 : decode cX4_isCompared 44 = .ok (.iconst 1, 1) := dk_4 (dk_at dksX4_isCompared_1 21 rfl rfl)
theorem dX4_isCompared_45 : decode cX4_isCompared 45 = .ok (.goto 4, 3) := dk_167 0 4 (dk_at dksX4_isCompared_2 0 rfl rfl)
theorem dX4_isCompared_48 : decode cX4_isCompared 48 = .ok (.iconst 0, 1) := dk_3 (dk_at dksX4_isCompared_2 3 rfl rfl)
theorem dX4_isCompared_49 : decode cX4_isCompared 49 = .ok (.ireturn, 1) := dk_172 (dk_at dksX4_isCompared_2 4 rfl rfl)
abbrev cX4_fault : ByteArray := prog_22_method_42_code
def yX4_fault : MethodName := ⟨RX4, "fault", "(I)I"⟩
def dkwX4_fault_1 : List UInt8 := [172]
abbrev dktX4_fault_1 : List UInt8 := dkwX4_fault_1 ++ []
def dkwX4_fault_0 : List UInt8 := [27, 154, 0, 10, 42, 180, 0, 188, 167, 0, 16, 27, 4, 160, 0, 10, 42, 180, 0, 16, 167, 0, 4, 2]
abbrev dktX4_fault_0 : List UInt8 := dkwX4_fault_0 ++ dktX4_fault_1
theorem dksX4_fault_0 : cX4_fault.data.toList.drop 0 = dktX4_fault_0 := by decide +kernel
theorem dksX4_fault_1 : cX4_fault.data.toList.drop 24 = dktX4_fault_1 := dk_seg dksX4_fault_0 24 rfl rfl
theorem dX4_fault_0 : decode cX4_fault 0 = .ok (.iload_n 1, 1) := dk_27 (dk_at dksX4_fault_0 0 rfl rfl)
theorem dX4_fault_1 : decode cX4_fault 1 = .ok (.ifCond .ne 10, 3) := dk_154 0 10 (dk_at dksX4_fault_0 1 rfl rfl)
theorem dX4_fault_4 : decode cX4_fault 4 = .ok (.aload_n 0, 1) := dk_42 (dk_at dksX4_fault_0 4 rfl rfl)
theorem dX4_fault_5 : decode cX4_fault 5 = .ok (.getfield 188, 3) := dk_180 0 188 (dk_at dksX4_fault_0 5 rfl rfl)
theorem dX4_fault_8 : decode cX4_fault 8 = .ok (.goto 16, 3) := dk_167 0 16 (dk_at dksX4_fault_0 8 rfl rfl)
theorem dX4_fault_11 : decode cX4_fault 11 = .ok (.iload_n 1, 1) := dk_27 (dk_at dksX4_fault_0 11 rfl rfl)
theorem dX4_fault_12 : decode cX4_fault 12 = .ok (.iconst 1, 1) := dk_4 (dk_at dksX4_fault_0 12 rfl rfl)
theorem dX4_fault_13 : decode cX4_fault 13 = .ok (.if_icmp .ne 10, 3) := dk_160 0 10 (dk_at dksX4_fault_0 13 rfl rfl)
theorem dX4_fault_16 : decode cX4_fault 16 = .ok (.aload_n 0, 1) := dk_42 (dk_at dksX4_fault_0 16 rfl rfl)
theorem dX4_fault_17 : decode cX4_fault 17 = .ok (.getfield 16, 3) := dk_180 0 16 (dk_at dksX4_fault_0 17 rfl rfl)
theorem dX4_fault_20 : decode cX4_fault 20 = .ok (.goto 4, 3) := dk_167 0 4 (dk_at dksX4_fault_0 20 rfl rfl)
theorem dX4_fault_23 : decode cX4_fault 23 = .ok (.iconst (-1), 1) := dk_2 (dk_at dksX4_fault_0 23 rfl rfl)
theorem dX4_fault_24 : decode cX4_fault 24 = .ok (.ireturn, 1) := dk_172 (dk_at dksX4_fault_1 0 rfl rfl)
abbrev cX4_man : ByteArray := prog_22_method_59_code
def yX4_man : MethodName := ⟨RX4, "man", "(II)I"⟩
def dkwX4_man_5 : List UInt8 := [180, 0, 42, 42, 180, 1, 45, 46, 27, 122, 4, 126, 172, 19, 1, 173, 172]
abbrev dktX4_man_5 : List UInt8 := dkwX4_man_5 ++ []
def dkwX4_man_4 : List UInt8 := [42, 27, 5, 182, 1, 177, 96, 172, 42, 180, 0, 51, 8, 42, 180, 1, 45, 104, 27, 96, 46, 172, 42]
abbrev dktX4_man_4 : List UInt8 := dkwX4_man_4 ++ dktX4_man_5
def dkwX4_man_3 : List UInt8 := [182, 1, 164, 172, 42, 3, 27, 182, 1, 174, 172, 42, 27, 3, 182, 1, 177, 42, 27, 4, 182, 1, 177, 96]
abbrev dktX4_man_3 : List UInt8 := dkwX4_man_3 ++ dktX4_man_4
def dkwX4_man_2 : List UInt8 := [42, 180, 0, 113, 16, 15, 27, 96, 46, 172, 42, 180, 0, 113, 16, 35, 27, 96, 46, 172, 42, 27]
abbrev dktX4_man_2 : List UInt8 := dkwX4_man_2 ++ dktX4_man_3
def dkwX4_man_1 : List UInt8 := [170, 0, 0, 0, 0, 0, 125, 0, 0, 0, 0, 0, 0, 0, 6, 0, 0, 0, 43, 0, 0, 0, 53, 0, 0, 0, 63, 0, 0, 0, 69, 0, 0, 0, 76, 0, 0, 0, 97, 0, 0, 0, 111]
abbrev dktX4_man_1 : List UInt8 := dkwX4_man_1 ++ dktX4_man_2
def dkwX4_man_0 : List UInt8 := [42, 27, 182, 1, 170, 154, 0, 7, 19, 1, 173, 172, 28]
abbrev dktX4_man_0 : List UInt8 := dkwX4_man_0 ++ dktX4_man_1
theorem dksX4_man_0 : cX4_man.data.toList.drop 0 = dktX4_man_0 := by decide +kernel
theorem dksX4_man_1 : cX4_man.data.toList.drop 13 = dktX4_man_1 := dk_seg dksX4_man_0 13 rfl rfl
theorem dksX4_man_2 : cX4_man.data.toList.drop 56 = dktX4_man_2 := dk_seg dksX4_man_1 43 rfl rfl
theorem dksX4_man_3 : cX4_man.data.toList.drop 78 = dktX4_man_3 := dk_seg dksX4_man_2 22 rfl rfl
theorem dksX4_man_4 : cX4_man.data.toList.drop 102 = dktX4_man_4 := dk_seg dksX4_man_3 24 rfl rfl
theorem dksX4_man_5 : cX4_man.data.toList.drop 125 = dktX4_man_5 := dk_seg dksX4_man_4 23 rfl rfl
theorem dX4_man_0 : decode cX4_man 0 = .ok (.aload_n 0, 1) := dk_42 (dk_at dksX4_man_0 0 rfl rfl)
theorem dX4_man_1 : decode cX4_man 1 = .ok (.iload_n 1, 1) := dk_27 (dk_at dksX4_man_0 1 rfl rfl)
theorem dX4_man_2 : decode cX4_man 2 = .ok (.invokevirtual 426, 3) := dk_182 1 170 (dk_at dksX4_man_0 2 rfl rfl)
theorem dX4_man_5 : decode cX4_man 5 = .ok (.ifCond .ne 7, 3) := dk_154 0 7 (dk_at dksX4_man_0 5 rfl rfl)
theorem dX4_man_8 : decode cX4_man 8 = .ok (.ldc_w 429, 3) := dk_19 1 173 (dk_at dksX4_man_0 8 rfl rfl)
theorem dX4_man_11 : decode cX4_man 11 = .ok (.ireturn, 1) := dk_172 (dk_at dksX4_man_0 11 rfl rfl)
theorem dX4_man_12 : decode cX4_man 12 = .ok (.iload_n 2, 1) := dk_28 (dk_at dksX4_man_0 12 rfl rfl)
theorem dX4_man_13 : decode cX4_man 13 = .ok (.tableswitch 125 0 6 #[43, 53, 63, 69, 76, 97, 111], 43) := by decide +kernel
theorem dX4_man_56 : decode cX4_man 56 = .ok (.aload_n 0, 1) := dk_42 (dk_at dksX4_man_2 0 rfl rfl)
theorem dX4_man_57 : decode cX4_man 57 = .ok (.getfield 113, 3) := dk_180 0 113 (dk_at dksX4_man_2 1 rfl rfl)
theorem dX4_man_60 : decode cX4_man 60 = .ok (.bipush 15, 2) := dk_16 15 (dk_at dksX4_man_2 4 rfl rfl)
theorem dX4_man_62 : decode cX4_man 62 = .ok (.iload_n 1, 1) := dk_27 (dk_at dksX4_man_2 6 rfl rfl)
theorem dX4_man_63 : decode cX4_man 63 = .ok (.iadd, 1) := dk_96 (dk_at dksX4_man_2 7 rfl rfl)
theorem dX4_man_64 : decode cX4_man 64 = .ok (.iaload, 1) := dk_46 (dk_at dksX4_man_2 8 rfl rfl)
theorem dX4_man_65 : decode cX4_man 65 = .ok (.ireturn, 1) := dk_172 (dk_at dksX4_man_2 9 rfl rfl)
theorem dX4_man_66 : decode cX4_man 66 = .ok (.aload_n 0, 1) := dk_42 (dk_at dksX4_man_2 10 rfl rfl)
theorem dX4_man_67 : decode cX4_man 67 = .ok (.getfield 113, 3) := dk_180 0 113 (dk_at dksX4_man_2 11 rfl rfl)
theorem dX4_man_70 : decode cX4_man 70 = .ok (.bipush 35, 2) := dk_16 35 (dk_at dksX4_man_2 14 rfl rfl)
theorem dX4_man_72 : decode cX4_man 72 = .ok (.iload_n 1, 1) := dk_27 (dk_at dksX4_man_2 16 rfl rfl)
theorem dX4_man_73 : decode cX4_man 73 = .ok (.iadd, 1) := dk_96 (dk_at dksX4_man_2 17 rfl rfl)
theorem dX4_man_74 : decode cX4_man 74 = .ok (.iaload, 1) := dk_46 (dk_at dksX4_man_2 18 rfl rfl)
theorem dX4_man_75 : decode cX4_man 75 = .ok (.ireturn, 1) := dk_172 (dk_at dksX4_man_2 19 rfl rfl)
theorem dX4_man_76 : decode cX4_man 76 = .ok (.aload_n 0, 1) := dk_42 (dk_at dksX4_man_2 20 rfl rfl)
theorem dX4_man_77 : decode cX4_man 77 = .ok (.iload_n 1, 1) := dk_27 (dk_at dksX4_man_2 21 rfl rfl)
theorem dX4_man_78 : decode cX4_man 78 = .ok (.invokevirtual 420, 3) := dk_182 1 164 (dk_at dksX4_man_3 0 rfl rfl)
theorem dX4_man_81 : decode cX4_man 81 = .ok (.ireturn, 1) := dk_172 (dk_at dksX4_man_3 3 rfl rfl)
theorem dX4_man_82 : decode cX4_man 82 = .ok (.aload_n 0, 1) := dk_42 (dk_at dksX4_man_3 4 rfl rfl)
theorem dX4_man_83 : decode cX4_man 83 = .ok (.iconst 0, 1) := dk_3 (dk_at dksX4_man_3 5 rfl rfl)
theorem dX4_man_84 : decode cX4_man 84 = .ok (.iload_n 1, 1) := dk_27 (dk_at dksX4_man_3 6 rfl rfl)
theorem dX4_man_85 : decode cX4_man 85 = .ok (.invokevirtual 430, 3) := dk_182 1 174 (dk_at dksX4_man_3 7 rfl rfl)
theorem dX4_man_88 : decode cX4_man 88 = .ok (.ireturn, 1) := dk_172 (dk_at dksX4_man_3 10 rfl rfl)
theorem dX4_man_89 : decode cX4_man 89 = .ok (.aload_n 0, 1) := dk_42 (dk_at dksX4_man_3 11 rfl rfl)
theorem dX4_man_90 : decode cX4_man 90 = .ok (.iload_n 1, 1) := dk_27 (dk_at dksX4_man_3 12 rfl rfl)
theorem dX4_man_91 : decode cX4_man 91 = .ok (.iconst 0, 1) := dk_3 (dk_at dksX4_man_3 13 rfl rfl)
theorem dX4_man_92 : decode cX4_man 92 = .ok (.invokevirtual 433, 3) := dk_182 1 177 (dk_at dksX4_man_3 14 rfl rfl)
theorem dX4_man_95 : decode cX4_man 95 = .ok (.aload_n 0, 1) := dk_42 (dk_at dksX4_man_3 17 rfl rfl)
theorem dX4_man_96 : decode cX4_man 96 = .ok (.iload_n 1, 1) := dk_27 (dk_at dksX4_man_3 18 rfl rfl)
theorem dX4_man_97 : decode cX4_man 97 = .ok (.iconst 1, 1) := dk_4 (dk_at dksX4_man_3 19 rfl rfl)
theorem dX4_man_98 : decode cX4_man 98 = .ok (.invokevirtual 433, 3) := dk_182 1 177 (dk_at dksX4_man_3 20 rfl rfl)
theorem dX4_man_101 : decode cX4_man 101 = .ok (.iadd, 1) := dk_96 (dk_at dksX4_man_3 23 rfl rfl)
theorem dX4_man_102 : decode cX4_man 102 = .ok (.aload_n 0, 1) := dk_42 (dk_at dksX4_man_4 0 rfl rfl)
theorem dX4_man_103 : decode cX4_man 103 = .ok (.iload_n 1, 1) := dk_27 (dk_at dksX4_man_4 1 rfl rfl)
theorem dX4_man_104 : decode cX4_man 104 = .ok (.iconst 2, 1) := dk_5 (dk_at dksX4_man_4 2 rfl rfl)
theorem dX4_man_105 : decode cX4_man 105 = .ok (.invokevirtual 433, 3) := dk_182 1 177 (dk_at dksX4_man_4 3 rfl rfl)
theorem dX4_man_108 : decode cX4_man 108 = .ok (.iadd, 1) := dk_96 (dk_at dksX4_man_4 6 rfl rfl)
theorem dX4_man_109 : decode cX4_man 109 = .ok (.ireturn, 1) := dk_172 (dk_at dksX4_man_4 7 rfl rfl)
theorem dX4_man_110 : decode cX4_man 110 = .ok (.aload_n 0, 1) := dk_42 (dk_at dksX4_man_4 8 rfl rfl)
theorem dX4_man_111 : decode cX4_man 111 = .ok (.getfield 51, 3) := dk_180 0 51 (dk_at dksX4_man_4 9 rfl rfl)
theorem dX4_man_114 : decode cX4_man 114 = .ok (.iconst 5, 1) := dk_8 (dk_at dksX4_man_4 12 rfl rfl)
theorem dX4_man_115 : decode cX4_man 115 = .ok (.aload_n 0, 1) := dk_42 (dk_at dksX4_man_4 13 rfl rfl)
theorem dX4_man_116 : decode cX4_man 116 = .ok (.getfield 301, 3) := dk_180 1 45 (dk_at dksX4_man_4 14 rfl rfl)
theorem dX4_man_119 : decode cX4_man 119 = .ok (.imul, 1) := dk_104 (dk_at dksX4_man_4 17 rfl rfl)
theorem dX4_man_120 : decode cX4_man 120 = .ok (.iload_n 1, 1) := dk_27 (dk_at dksX4_man_4 18 rfl rfl)
theorem dX4_man_121 : decode cX4_man 121 = .ok (.iadd, 1) := dk_96 (dk_at dksX4_man_4 19 rfl rfl)
theorem dX4_man_122 : decode cX4_man 122 = .ok (.iaload, 1) := dk_46 (dk_at dksX4_man_4 20 rfl rfl)
theorem dX4_man_123 : decode cX4_man 123 = .ok (.ireturn, 1) := dk_172 (dk_at dksX4_man_4 21 rfl rfl)
theorem dX4_man_124 : decode cX4_man 124 = .ok (.aload_n 0, 1) := dk_42 (dk_at dksX4_man_4 22 rfl rfl)
theorem dX4_man_125 : decode cX4_man 125 = .ok (.getfield 42, 3) := dk_180 0 42 (dk_at dksX4_man_5 0 rfl rfl)
theorem dX4_man_128 : decode cX4_man 128 = .ok (.aload_n 0, 1) := dk_42 (dk_at dksX4_man_5 3 rfl rfl)
theorem dX4_man_129 : decode cX4_man 129 = .ok (.getfield 301, 3) := dk_180 1 45 (dk_at dksX4_man_5 4 rfl rfl)
theorem dX4_man_132 : decode cX4_man 132 = .ok (.iaload, 1) := dk_46 (dk_at dksX4_man_5 7 rfl rfl)
theorem dX4_man_133 : decode cX4_man 133 = .ok (.iload_n 1, 1) := dk_27 (dk_at dksX4_man_5 8 rfl rfl)
theorem dX4_man_134 : decode cX4_man 134 = .ok (.ishr, 1) := dk_122 (dk_at dksX4_man_5 9 rfl rfl)
theorem dX4_man_135 : decode cX4_man 135 = .ok (.iconst 1, 1) := dk_4 (dk_at dksX4_man_5 10 rfl rfl)
theorem dX4_man_136 : decode cX4_man 136 = .ok (.iand, 1) := dk_126 (dk_at dksX4_man_5 11 rfl rfl)
theorem dX4_man_137 : decode cX4_man 137 = .ok (.ireturn, 1) := dk_172 (dk_at dksX4_man_5 12 rfl rfl)
theorem dX4_man_138 : decode cX4_man 138 = .ok (.ldc_w 429, 3) := dk_19 1 173 (dk_at dksX4_man_5 13 rfl rfl)
theorem dX4_man_141 : decode cX4_man 141 = .ok (.ireturn, 1) := dk_172 (dk_at dksX4_man_5 16 rfl rfl)
abbrev cX4_isMan : ByteArray := prog_22_method_48_code
def yX4_isMan : MethodName := ⟨RX4, "isMan", "(I)Z"⟩
def dkwX4_isMan_0 : List UInt8 := [27, 3, 42, 182, 1, 142, 4, 100, 184, 1, 145, 172]
abbrev dktX4_isMan_0 : List UInt8 := dkwX4_isMan_0 ++ []
theorem dksX4_isMan_0 : cX4_isMan.data.toList.drop 0 = dktX4_isMan_0 := by decide +kernel
theorem dX4_isMan_0 : decode cX4_isMan 0 = .ok (.iload_n 1, 1) := dk_27 (dk_at dksX4_isMan_0 0 rfl rfl)
theorem dX4_isMan_1 : decode cX4_isMan 1 = .ok (.iconst 0, 1) := dk_3 (dk_at dksX4_isMan_0 1 rfl rfl)
theorem dX4_isMan_2 : decode cX4_isMan 2 = .ok (.aload_n 0, 1) := dk_42 (dk_at dksX4_isMan_0 2 rfl rfl)
theorem dX4_isMan_3 : decode cX4_isMan 3 = .ok (.invokevirtual 398, 3) := dk_182 1 142 (dk_at dksX4_isMan_0 3 rfl rfl)
theorem dX4_isMan_6 : decode cX4_isMan 6 = .ok (.iconst 1, 1) := dk_4 (dk_at dksX4_isMan_0 6 rfl rfl)
theorem dX4_isMan_7 : decode cX4_isMan 7 = .ok (.isub, 1) := dk_100 (dk_at dksX4_isMan_0 7 rfl rfl)
theorem dX4_isMan_8 : decode cX4_isMan 8 = .ok (.invokestatic 401, 3) := dk_184 1 145 (dk_at dksX4_isMan_0 8 rfl rfl)
theorem dX4_isMan_11 : decode cX4_isMan 11 = .ok (.ireturn, 1) := dk_172 (dk_at dksX4_isMan_0 11 rfl rfl)
abbrev cX4_isIn : ByteArray := prog_22_method_43_code
def yX4_isIn : MethodName := ⟨RX4, "isIn", "(III)Z"⟩
def dkwX4_isIn_0 : List UInt8 := [26, 27, 161, 0, 12, 26, 28, 163, 0, 7, 4, 167, 0, 4, 3, 172]
abbrev dktX4_isIn_0 : List UInt8 := dkwX4_isIn_0 ++ []
theorem dksX4_isIn_0 : cX4_isIn.data.toList.drop 0 = dktX4_isIn_0 := by decide +kernel
theorem dX4_isIn_0 : decode cX4_isIn 0 = .ok (.iload_n 0, 1) := dk_26 (dk_at dksX4_isIn_0 0 rfl rfl)
theorem dX4_isIn_1 : decode cX4_isIn 1 = .ok (.iload_n 1, 1) := dk_27 (dk_at dksX4_isIn_0 1 rfl rfl)
theorem dX4_isIn_2 : decode cX4_isIn 2 = .ok (.if_icmp .lt 12, 3) := dk_161 0 12 (dk_at dksX4_isIn_0 2 rfl rfl)
theorem dX4_isIn_5 : decode cX4_isIn 5 = .ok (.iload_n 0, 1) := dk_26 (dk_at dksX4_isIn_0 5 rfl rfl)
theorem dX4_isIn_6 : decode cX4_isIn 6 = .ok (.iload_n 2, 1) := dk_28 (dk_at dksX4_isIn_0 6 rfl rfl)
theorem dX4_isIn_7 : decode cX4_isIn 7 = .ok (.if_icmp .gt 7, 3) := dk_163 0 7 (dk_at dksX4_isIn_0 7 rfl rfl)
theorem dX4_isIn_10 : decode cX4_isIn 10 = .ok (.iconst 1, 1) := dk_4 (dk_at dksX4_isIn_0 10 rfl rfl)
theorem dX4_isIn_11 : decode cX4_isIn 11 = .ok (.goto 4, 3) := dk_167 0 4 (dk_at dksX4_isIn_0 11 rfl rfl)
theorem dX4_isIn_14 : decode cX4_isIn 14 = .ok (.iconst 0, 1) := dk_3 (dk_at dksX4_isIn_0 14 rfl rfl)
theorem dX4_isIn_15 : decode cX4_isIn 15 = .ok (.ireturn, 1) := dk_172 (dk_at dksX4_isIn_0 15 rfl rfl)
abbrev cX4_growthOf : ByteArray := prog_22_method_54_code
def yX4_growthOf : MethodName := ⟨RX4, "growthOf", "(I)I"⟩
def dkwX4_growthOf_2 : List UInt8 := [16, 20, 164, 0, 8, 16, 20, 167, 0, 15, 28, 16, 236, 162, 0, 8, 16, 236, 167, 0, 4, 28, 172]
abbrev dktX4_growthOf_2 : List UInt8 := dkwX4_growthOf_2 ++ []
def dkwX4_growthOf_1 : List UInt8 := [42, 180, 0, 81, 42, 180, 1, 45, 51, 153, 0, 13, 42, 27, 181, 1, 129, 42, 182, 1, 161, 61, 28]
abbrev dktX4_growthOf_1 : List UInt8 := dkwX4_growthOf_1 ++ dktX4_growthOf_2
def dkwX4_growthOf_0 : List UInt8 := [3, 61, 3, 62, 29, 6, 162, 0, 18, 28, 42, 27, 29, 182, 1, 132, 96, 61, 132, 3, 1, 167, 255, 239]
abbrev dktX4_growthOf_0 : List UInt8 := dkwX4_growthOf_0 ++ dktX4_growthOf_1
theorem dksX4_growthOf_0 : cX4_growthOf.data.toList.drop 0 = dktX4_growthOf_0 := by decide +kernel
theorem dksX4_growthOf_1 : cX4_growthOf.data.toList.drop 24 = dktX4_growthOf_1 := dk_seg dksX4_growthOf_0 24 rfl rfl
theorem dksX4_growthOf_2 : cX4_growthOf.data.toList.drop 47 = dktX4_growthOf_2 := dk_seg dksX4_growthOf_1 23 rfl rfl
theorem dX4_growthOf_0 : decode cX4_growthOf 0 = .ok (.iconst 0, 1) := dk_3 (dk_at dksX4_growthOf_0 0 rfl rfl)
theorem dX4_growthOf_1 : decode cX4_growthOf 1 = .ok (.istore_n 2, 1) := dk_61 (dk_at dksX4_growthOf_0 1 rfl rfl)
theorem dX4_growthOf_2 : decode cX4_growthOf 2 = .ok (.iconst 0, 1) := dk_3 (dk_at dksX4_growthOf_0 2 rfl rfl)
theorem dX4_growthOf_3 : decode cX4_growthOf 3 = .ok (.istore_n 3, 1) := dk_62 (dk_at dksX4_growthOf_0 3 rfl rfl)
theorem dX4_growthOf_4 : decode cX4_growthOf 4 = .ok (.iload_n 3, 1) := dk_29 (dk_at dksX4_growthOf_0 4 rfl rfl)
theorem dX4_growthOf_5 : decode cX4_growthOf 5 = .ok (.iconst 3, 1) := dk_6 (dk_at dksX4_growthOf_0 5 rfl rfl)
theorem dX4_growthOf_6 : decode cX4_growthOf 6 = .ok (.if_icmp .ge 18, 3) := dk_162 0 18 (dk_at dksX4_growthOf_0 6 rfl rfl)
theorem dX4_growthOf_9 : decode cX4_growthOf 9 = .ok (.iload_n 2, 1) := dk_28 (dk_at dksX4_growthOf_0 9 rfl rfl)
theorem dX4_growthOf_10 : decode cX4_growthOf 10 = .ok (.aload_n 0, 1) := dk_42 (dk_at dksX4_growthOf_0 10 rfl rfl)
theorem dX4_growthOf_11 : decode cX4_growthOf 11 = .ok (.iload_n 1, 1) := dk_27 (dk_at dksX4_growthOf_0 11 rfl rfl)
theorem dX4_growthOf_12 : decode cX4_growthOf 12 = .ok (.iload_n 3, 1) := dk_29 (dk_at dksX4_growthOf_0 12 rfl rfl)
theorem dX4_growthOf_13 : decode cX4_growthOf 13 = .ok (.invokevirtual 388, 3) := dk_182 1 132 (dk_at dksX4_growthOf_0 13 rfl rfl)
theorem dX4_growthOf_16 : decode cX4_growthOf 16 = .ok (.iadd, 1) := dk_96 (dk_at dksX4_growthOf_0 16 rfl rfl)
theorem dX4_growthOf_17 : decode cX4_growthOf 17 = .ok (.istore_n 2, 1) := dk_61 (dk_at dksX4_growthOf_0 17 rfl rfl)
theorem dX4_growthOf_18 : decode cX4_growthOf 18 = .ok (.iinc 3 1, 3) := dk_132 3 1 (dk_at dksX4_growthOf_0 18 rfl rfl)
theorem dX4_growthOf_21 : decode cX4_growthOf 21 = .ok (.goto (-17), 3) := dk_167 255 239 (dk_at dksX4_growthOf_0 21 rfl rfl)
theorem dX4_growthOf_24 : decode cX4_growthOf 24 = .ok (.aload_n 0, 1) := dk_42 (dk_at dksX4_growthOf_1 0 rfl rfl)
theorem dX4_growthOf_25 : decode cX4_growthOf 25 = .ok (.getfield 81, 3) := dk_180 0 81 (dk_at dksX4_growthOf_1 1 rfl rfl)
theorem dX4_growthOf_28 : decode cX4_growthOf 28 = .ok (.aload_n 0, 1) := dk_42 (dk_at dksX4_growthOf_1 4 rfl rfl)
theorem dX4_growthOf_29 : decode cX4_growthOf 29 = .ok (.getfield 301, 3) := dk_180 1 45 (dk_at dksX4_growthOf_1 5 rfl rfl)
theorem dX4_growthOf_32 : decode cX4_growthOf 32 = .ok (.baload, 1) := dk_51 (dk_at dksX4_growthOf_1 8 rfl rfl)
theorem dX4_growthOf_33 : decode cX4_growthOf 33 = .ok (.ifCond .eq 13, 3) := dk_153 0 13 (dk_at dksX4_growthOf_1 9 rfl rfl)
theorem dX4_growthOf_36 : decode cX4_growthOf 36 = .ok (.aload_n 0, 1) := dk_42 (dk_at dksX4_growthOf_1 12 rfl rfl)
theorem dX4_growthOf_37 : decode cX4_growthOf 37 = .ok (.iload_n 1, 1) := dk_27 (dk_at dksX4_growthOf_1 13 rfl rfl)
theorem dX4_growthOf_38 : decode cX4_growthOf 38 = .ok (.putfield 385, 3) := dk_181 1 129 (dk_at dksX4_growthOf_1 14 rfl rfl)
theorem dX4_growthOf_41 : decode cX4_growthOf 41 = .ok (.aload_n 0, 1) := dk_42 (dk_at dksX4_growthOf_1 17 rfl rfl)
theorem dX4_growthOf_42 : decode cX4_growthOf 42 = .ok (.invokevirtual 417, 3) := dk_182 1 161 (dk_at dksX4_growthOf_1 18 rfl rfl)
theorem dX4_growthOf_45 : decode cX4_growthOf 45 = .ok (.istore_n 2, 1) := dk_61 (dk_at dksX4_growthOf_1 21 rfl rfl)
theorem dX4_growthOf_46 : decode cX4_growthOf 46 = .ok (.iload_n 2, 1) := dk_28 (dk_at dksX4_growthOf_1 22 rfl rfl)
theorem dX4_growthOf_47 : decode cX4_growthOf 47 = .ok (.bipush 20, 2) := dk_16 20 (dk_at dksX4_growthOf_2 0 rfl rfl)
theorem dX4_growthOf_49 : decode cX4_growthOf 49 = .ok (.if_icmp .le 8, 3) := dk_164 0 8 (dk_at dksX4_growthOf_2 2 rfl rfl)
theorem dX4_growthOf_52 : decode cX4_growthOf 52 = .ok (.bipush 20, 2) := dk_16 20 (dk_at dksX4_growthOf_2 5 rfl rfl)
theorem dX4_growthOf_54 : decode cX4_growthOf 54 = .ok (.goto 15, 3) := dk_167 0 15 (dk_at dksX4_growthOf_2 7 rfl rfl)
theorem dX4_growthOf_57 : decode cX4_growthOf 57 = .ok (.iload_n 2, 1) := dk_28 (dk_at dksX4_growthOf_2 10 rfl rfl)
theorem dX4_growthOf_58 : decode cX4_growthOf 58 = .ok (.bipush (-20), 2) := dk_16 236 (dk_at dksX4_growthOf_2 11 rfl rfl)
theorem dX4_growthOf_60 : decode cX4_growthOf 60 = .ok (.if_icmp .ge 8, 3) := dk_162 0 8 (dk_at dksX4_growthOf_2 13 rfl rfl)
theorem dX4_growthOf_63 : decode cX4_growthOf 63 = .ok (.bipush (-20), 2) := dk_16 236 (dk_at dksX4_growthOf_2 16 rfl rfl)
theorem dX4_growthOf_65 : decode cX4_growthOf 65 = .ok (.goto 4, 3) := dk_167 0 4 (dk_at dksX4_growthOf_2 18 rfl rfl)
theorem dX4_growthOf_68 : decode cX4_growthOf 68 = .ok (.iload_n 2, 1) := dk_28 (dk_at dksX4_growthOf_2 21 rfl rfl)
theorem dX4_growthOf_69 : decode cX4_growthOf 69 = .ok (.ireturn, 1) := dk_172 (dk_at dksX4_growthOf_2 22 rfl rfl)
abbrev cX4_overOf : ByteArray := prog_22_method_39_code
def yX4_overOf : MethodName := ⟨RX4, "overOf", "(II)I"⟩
def dkwX4_overOf_1 : List UInt8 := [96, 46, 167, 0, 4, 3, 172]
abbrev dktX4_overOf_1 : List UInt8 := dkwX4_overOf_1 ++ []
def dkwX4_overOf_0 : List UInt8 := [28, 42, 180, 0, 20, 42, 180, 1, 45, 46, 162, 0, 19, 42, 180, 0, 113, 16, 20, 6, 27, 104, 96, 28]
abbrev dktX4_overOf_0 : List UInt8 := dkwX4_overOf_0 ++ dktX4_overOf_1
theorem dksX4_overOf_0 : cX4_overOf.data.toList.drop 0 = dktX4_overOf_0 := by decide +kernel
theorem dksX4_overOf_1 : cX4_overOf.data.toList.drop 24 = dktX4_overOf_1 := dk_seg dksX4_overOf_0 24 rfl rfl
theorem dX4_overOf_0 : decode cX4_overOf 0 = .ok (.iload_n 2, 1) := dk_28 (dk_at dksX4_overOf_0 0 rfl rfl)
theorem dX4_overOf_1 : decode cX4_overOf 1 = .ok (.aload_n 0, 1) := dk_42 (dk_at dksX4_overOf_0 1 rfl rfl)
theorem dX4_overOf_2 : decode cX4_overOf 2 = .ok (.getfield 20, 3) := dk_180 0 20 (dk_at dksX4_overOf_0 2 rfl rfl)
theorem dX4_overOf_5 : decode cX4_overOf 5 = .ok (.aload_n 0, 1) := dk_42 (dk_at dksX4_overOf_0 5 rfl rfl)
theorem dX4_overOf_6 : decode cX4_overOf 6 = .ok (.getfield 301, 3) := dk_180 1 45 (dk_at dksX4_overOf_0 6 rfl rfl)
theorem dX4_overOf_9 : decode cX4_overOf 9 = .ok (.iaload, 1) := dk_46 (dk_at dksX4_overOf_0 9 rfl rfl)
theorem dX4_overOf_10 : decode cX4_overOf 10 = .ok (.if_icmp .ge 19, 3) := dk_162 0 19 (dk_at dksX4_overOf_0 10 rfl rfl)
theorem dX4_overOf_13 : decode cX4_overOf 13 = .ok (.aload_n 0, 1) := dk_42 (dk_at dksX4_overOf_0 13 rfl rfl)
theorem dX4_overOf_14 : decode cX4_overOf 14 = .ok (.getfield 113, 3) := dk_180 0 113 (dk_at dksX4_overOf_0 14 rfl rfl)
theorem dX4_overOf_17 : decode cX4_overOf 17 = .ok (.bipush 20, 2) := dk_16 20 (dk_at dksX4_overOf_0 17 rfl rfl)
theorem dX4_overOf_19 : decode cX4_overOf 19 = .ok (.iconst 3, 1) := dk_6 (dk_at dksX4_overOf_0 19 rfl rfl)
theorem dX4_overOf_20 : decode cX4_overOf 20 = .ok (.iload_n 1, 1) := dk_27 (dk_at dksX4_overOf_0 20 rfl rfl)
theorem dX4_overOf_21 : decode cX4_overOf 21 = .ok (.imul, 1) := dk_104 (dk_at dksX4_overOf_0 21 rfl rfl)
theorem dX4_overOf_22 : decode cX4_overOf 22 = .ok (.iadd, 1) := dk_96 (dk_at dksX4_overOf_0 22 rfl rfl)
theorem dX4_overOf_23 : decode cX4_overOf 23 = .ok (.iload_n 2, 1) := dk_28 (dk_at dksX4_overOf_0 23 rfl rfl)
theorem dX4_overOf_24 : decode cX4_overOf 24 = .ok (.iadd, 1) := dk_96 (dk_at dksX4_overOf_1 0 rfl rfl)
theorem dX4_overOf_25 : decode cX4_overOf 25 = .ok (.iaload, 1) := dk_46 (dk_at dksX4_overOf_1 1 rfl rfl)
theorem dX4_overOf_26 : decode cX4_overOf 26 = .ok (.goto 4, 3) := dk_167 0 4 (dk_at dksX4_overOf_1 2 rfl rfl)
theorem dX4_overOf_29 : decode cX4_overOf 29 = .ok (.iconst 0, 1) := dk_3 (dk_at dksX4_overOf_1 5 rfl rfl)
theorem dX4_overOf_30 : decode cX4_overOf 30 = .ok (.ireturn, 1) := dk_172 (dk_at dksX4_overOf_1 6 rfl rfl)
abbrev cX4_comes : ByteArray := prog_22_method_41_code
def yX4_comes : MethodName := ⟨RX4, "comes", "()I"⟩
def dkwX4_comes_5 : List UInt8 := [180, 0, 110, 27, 46, 184, 1, 138, 79, 132, 2, 1, 167, 255, 141, 42, 180, 0, 110, 3, 46, 172]
abbrev dktX4_comes_5 : List UInt8 := dkwX4_comes_5 ++ []
def dkwX4_comes_4 : List UInt8 := [167, 0, 32, 132, 1, 255, 42, 180, 0, 110, 27, 4, 100, 29, 42, 180, 0, 110, 27, 4, 100, 46, 42]
abbrev dktX4_comes_4 : List UInt8 := dkwX4_comes_4 ++ dktX4_comes_5
def dkwX4_comes_3 : List UInt8 := [153, 0, 26, 42, 180, 0, 110, 27, 42, 29, 42, 180, 0, 101, 28, 46, 182, 1, 135, 79, 132, 1, 1]
abbrev dktX4_comes_3 : List UInt8 := dkwX4_comes_3 ++ dktX4_comes_4
def dkwX4_comes_2 : List UInt8 := [180, 0, 110, 27, 4, 100, 46, 154, 0, 7, 4, 167, 0, 4, 3, 79, 167, 0, 62, 29, 184, 0, 246]
abbrev dktX4_comes_2 : List UInt8 := dkwX4_comes_2 ++ dktX4_comes_3
def dkwX4_comes_1 : List UInt8 := [162, 0, 108, 42, 180, 0, 98, 28, 46, 62, 29, 16, 126, 160, 0, 30, 42, 180, 0, 110, 27, 4, 100, 42]
abbrev dktX4_comes_1 : List UInt8 := dkwX4_comes_1 ++ dktX4_comes_2
def dkwX4_comes_0 : List UInt8 := [3, 60, 42, 180, 0, 75, 42, 180, 1, 45, 46, 61, 28, 42, 180, 0, 78, 42, 180, 1, 45, 46]
abbrev dktX4_comes_0 : List UInt8 := dkwX4_comes_0 ++ dktX4_comes_1
theorem dksX4_comes_0 : cX4_comes.data.toList.drop 0 = dktX4_comes_0 := by decide +kernel
theorem dksX4_comes_1 : cX4_comes.data.toList.drop 22 = dktX4_comes_1 := dk_seg dksX4_comes_0 22 rfl rfl
theorem dksX4_comes_2 : cX4_comes.data.toList.drop 46 = dktX4_comes_2 := dk_seg dksX4_comes_1 24 rfl rfl
theorem dksX4_comes_3 : cX4_comes.data.toList.drop 69 = dktX4_comes_3 := dk_seg dksX4_comes_2 23 rfl rfl
theorem dksX4_comes_4 : cX4_comes.data.toList.drop 92 = dktX4_comes_4 := dk_seg dksX4_comes_3 23 rfl rfl
theorem dksX4_comes_5 : cX4_comes.data.toList.drop 115 = dktX4_comes_5 := dk_seg dksX4_comes_4 23 rfl rfl
theorem dX4_comes_0 : decode cX4_comes 0 = .ok (.iconst 0, 1) := dk_3 (dk_at dksX4_comes_0 0 rfl rfl)
theorem dX4_comes_1 : decode cX4_comes 1 = .ok (.istore_n 1, 1) := dk_60 (dk_at dksX4_comes_0 1 rfl rfl)
theorem dX4_comes_2 : decode cX4_comes 2 = .ok (.aload_n 0, 1) := dk_42 (dk_at dksX4_comes_0 2 rfl rfl)
theorem dX4_comes_3 : decode cX4_comes 3 = .ok (.getfield 75, 3) := dk_180 0 75 (dk_at dksX4_comes_0 3 rfl rfl)
theorem dX4_comes_6 : decode cX4_comes 6 = .ok (.aload_n 0, 1) := dk_42 (dk_at dksX4_comes_0 6 rfl rfl)
theorem dX4_comes_7 : decode cX4_comes 7 = .ok (.getfield 301, 3) := dk_180 1 45 (dk_at dksX4_comes_0 7 rfl rfl)
theorem dX4_comes_10 : decode cX4_comes 10 = .ok (.iaload, 1) := dk_46 (dk_at dksX4_comes_0 10 rfl rfl)
theorem dX4_comes_11 : decode cX4_comes 11 = .ok (.istore_n 2, 1) := dk_61 (dk_at dksX4_comes_0 11 rfl rfl)
theorem dX4_comes_12 : decode cX4_comes 12 = .ok (.iload_n 2, 1) := dk_28 (dk_at dksX4_comes_0 12 rfl rfl)
theorem dX4_comes_13 : decode cX4_comes 13 = .ok (.aload_n 0, 1) := dk_42 (dk_at dksX4_comes_0 13 rfl rfl)
theorem dX4_comes_14 : decode cX4_comes 14 = .ok (.getfield 78, 3) := dk_180 0 78 (dk_at dksX4_comes_0 14 rfl rfl)
theorem dX4_comes_17 : decode cX4_comes 17 = .ok (.aload_n 0, 1) := dk_42 (dk_at dksX4_comes_0 17 rfl rfl)
theorem dX4_comes_18 : decode cX4_comes 18 = .ok (.getfield 301, 3) := dk_180 1 45 (dk_at dksX4_comes_0 18 rfl rfl)
theorem dX4_comes_21 : decode cX4_comes 21 = .ok (.iaload, 1) := dk_46 (dk_at dksX4_comes_0 21 rfl rfl)
theorem dX4_comes_22 : decode cX4_comes 22 = .ok (.if_icmp .ge 108, 3) := dk_162 0 108 (dk_at dksX4_comes_1 0 rfl rfl)
theorem dX4_comes_25 : decode cX4_comes 25 = .ok (.aload_n 0, 1) := dk_42 (dk_at dksX4_comes_1 3 rfl rfl)
theorem dX4_comes_26 : decode cX4_comes 26 = .ok (.getfield 98, 3) := dk_180 0 98 (dk_at dksX4_comes_1 4 rfl rfl)
theorem dX4_comes_29 : decode cX4_comes 29 = .ok (.iload_n 2, 1) := dk_28 (dk_at dksX4_comes_1 7 rfl rfl)
theorem dX4_comes_30 : decode cX4_comes 30 = .ok (.iaload, 1) := dk_46 (dk_at dksX4_comes_1 8 rfl rfl)
theorem dX4_comes_31 : decode cX4_comes 31 = .ok (.istore_n 3, 1) := dk_62 (dk_at dksX4_comes_1 9 rfl rfl)
theorem dX4_comes_32 : decode cX4_comes 32 = .ok (.iload_n 3, 1) := dk_29 (dk_at dksX4_comes_1 10 rfl rfl)
theorem dX4_comes_33 : decode cX4_comes 33 = .ok (.bipush 126, 2) := dk_16 126 (dk_at dksX4_comes_1 11 rfl rfl)
theorem dX4_comes_35 : decode cX4_comes 35 = .ok (.if_icmp .ne 30, 3) := dk_160 0 30 (dk_at dksX4_comes_1 13 rfl rfl)
theorem dX4_comes_38 : decode cX4_comes 38 = .ok (.aload_n 0, 1) := dk_42 (dk_at dksX4_comes_1 16 rfl rfl)
theorem dX4_comes_39 : decode cX4_comes 39 = .ok (.getfield 110, 3) := dk_180 0 110 (dk_at dksX4_comes_1 17 rfl rfl)
theorem dX4_comes_42 : decode cX4_comes 42 = .ok (.iload_n 1, 1) := dk_27 (dk_at dksX4_comes_1 20 rfl rfl)
theorem dX4_comes_43 : decode cX4_comes 43 = .ok (.iconst 1, 1) := dk_4 (dk_at dksX4_comes_1 21 rfl rfl)
theorem dX4_comes_44 : decode cX4_comes 44 = .ok (.isub, 1) := dk_100 (dk_at dksX4_comes_1 22 rfl rfl)
theorem dX4_comes_45 : decode cX4_comes 45 = .ok (.aload_n 0, 1) := dk_42 (dk_at dksX4_comes_1 23 rfl rfl)
theorem dX4_comes_46 : decode cX4_comes 46 = .ok (.getfield 110, 3) := dk_180 0 110 (dk_at dksX4_comes_2 0 rfl rfl)
theorem dX4_comes_49 : decode cX4_comes 49 = .ok (.iload_n 1, 1) := dk_27 (dk_at dksX4_comes_2 3 rfl rfl)
theorem dX4_comes_50 : decode cX4_comes 50 = .ok (.iconst 1, 1) := dk_4 (dk_at dksX4_comes_2 4 rfl rfl)
theorem dX4_comes_51 : decode cX4_comes 51 = .ok (.isub, 1) := dk_100 (dk_at dksX4_comes_2 5 rfl rfl)
theorem dX4_comes_52 : decode cX4_comes 52 = .ok (.iaload, 1) := dk_46 (dk_at dksX4_comes_2 6 rfl rfl)
theorem dX4_comes_53 : decode cX4_comes 53 = .ok (.ifCond .ne 7, 3) := dk_154 0 7 (dk_at dksX4_comes_2 7 rfl rfl)
theorem dX4_comes_56 : decode cX4_comes 56 = .ok (.iconst 1, 1) := dk_4 (dk_at dksX4_comes_2 10 rfl rfl)
theorem dX4_comes_57 : decode cX4_comes 57 = .ok (.goto 4, 3) := dk_167 0 4 (dk_at dksX4_comes_2 11 rfl rfl)
theorem dX4_comes_60 : decode cX4_comes 60 = .ok (.iconst 0, 1) := dk_3 (dk_at dksX4_comes_2 14 rfl rfl)
theorem dX4_comes_61 : decode cX4_comes 61 = .ok (.iastore, 1) := dk_79 (dk_at dksX4_comes_2 15 rfl rfl)
theorem dX4_comes_62 : decode cX4_comes 62 = .ok (.goto 62, 3) := dk_167 0 62 (dk_at dksX4_comes_2 16 rfl rfl)
theorem dX4_comes_65 : decode cX4_comes 65 = .ok (.iload_n 3, 1) := dk_29 (dk_at dksX4_comes_2 19 rfl rfl)
theorem dX4_comes_66 : decode cX4_comes 66 = .ok (.invokestatic 246, 3) := dk_184 0 246 (dk_at dksX4_comes_2 20 rfl rfl)
theorem dX4_comes_69 : decode cX4_comes 69 = .ok (.ifCond .eq 26, 3) := dk_153 0 26 (dk_at dksX4_comes_3 0 rfl rfl)
theorem dX4_comes_72 : decode cX4_comes 72 = .ok (.aload_n 0, 1) := dk_42 (dk_at dksX4_comes_3 3 rfl rfl)
theorem dX4_comes_73 : decode cX4_comes 73 = .ok (.getfield 110, 3) := dk_180 0 110 (dk_at dksX4_comes_3 4 rfl rfl)
theorem dX4_comes_76 : decode cX4_comes 76 = .ok (.iload_n 1, 1) := dk_27 (dk_at dksX4_comes_3 7 rfl rfl)
theorem dX4_comes_77 : decode cX4_comes 77 = .ok (.aload_n 0, 1) := dk_42 (dk_at dksX4_comes_3 8 rfl rfl)
theorem dX4_comes_78 : decode cX4_comes 78 = .ok (.iload_n 3, 1) := dk_29 (dk_at dksX4_comes_3 9 rfl rfl)
theorem dX4_comes_79 : decode cX4_comes 79 = .ok (.aload_n 0, 1) := dk_42 (dk_at dksX4_comes_3 10 rfl rfl)
theorem dX4_comes_80 : decode cX4_comes 80 = .ok (.getfield 101, 3) := dk_180 0 101 (dk_at dksX4_comes_3 11 rfl rfl)
theorem dX4_comes_83 : decode cX4_comes 83 = .ok (.iload_n 2, 1) := dk_28 (dk_at dksX4_comes_3 14 rfl rfl)
theorem dX4_comes_84 : decode cX4_comes 84 = .ok (.iaload, 1) := dk_46 (dk_at dksX4_comes_3 15 rfl rfl)
theorem dX4_comes_85 : decode cX4_comes 85 = .ok (.invokevirtual 391, 3) := dk_182 1 135 (dk_at dksX4_comes_3 16 rfl rfl)
theorem dX4_comes_88 : decode cX4_comes 88 = .ok (.iastore, 1) := dk_79 (dk_at dksX4_comes_3 19 rfl rfl)
theorem dX4_comes_89 : decode cX4_comes 89 = .ok (.iinc 1 1, 3) := dk_132 1 1 (dk_at dksX4_comes_3 20 rfl rfl)
theorem dX4_comes_92 : decode cX4_comes 92 = .ok (.goto 32, 3) := dk_167 0 32 (dk_at dksX4_comes_4 0 rfl rfl)
theorem dX4_comes_95 : decode cX4_comes 95 = .ok (.iinc 1 (-1), 3) := dk_132 1 255 (dk_at dksX4_comes_4 3 rfl rfl)
theorem dX4_comes_98 : decode cX4_comes 98 = .ok (.aload_n 0, 1) := dk_42 (dk_at dksX4_comes_4 6 rfl rfl)
theorem dX4_comes_99 : decode cX4_comes 99 = .ok (.getfield 110, 3) := dk_180 0 110 (dk_at dksX4_comes_4 7 rfl rfl)
theorem dX4_comes_102 : decode cX4_comes 102 = .ok (.iload_n 1, 1) := dk_27 (dk_at dksX4_comes_4 10 rfl rfl)
theorem dX4_comes_103 : decode cX4_comes 103 = .ok (.iconst 1, 1) := dk_4 (dk_at dksX4_comes_4 11 rfl rfl)
theorem dX4_comes_104 : decode cX4_comes 104 = .ok (.isub, 1) := dk_100 (dk_at dksX4_comes_4 12 rfl rfl)
theorem dX4_comes_105 : decode cX4_comes 105 = .ok (.iload_n 3, 1) := dk_29 (dk_at dksX4_comes_4 13 rfl rfl)
theorem dX4_comes_106 : decode cX4_comes 106 = .ok (.aload_n 0, 1) := dk_42 (dk_at dksX4_comes_4 14 rfl rfl)
theorem dX4_comes_107 : decode cX4_comes 107 = .ok (.getfield 110, 3) := dk_180 0 110 (dk_at dksX4_comes_4 15 rfl rfl)
theorem dX4_comes_110 : decode cX4_comes 110 = .ok (.iload_n 1, 1) := dk_27 (dk_at dksX4_comes_4 18 rfl rfl)
theorem dX4_comes_111 : decode cX4_comes 111 = .ok (.iconst 1, 1) := dk_4 (dk_at dksX4_comes_4 19 rfl rfl)
theorem dX4_comes_112 : decode cX4_comes 112 = .ok (.isub, 1) := dk_100 (dk_at dksX4_comes_4 20 rfl rfl)
theorem dX4_comes_113 : decode cX4_comes 113 = .ok (.iaload, 1) := dk_46 (dk_at dksX4_comes_4 21 rfl rfl)
theorem dX4_comes_114 : decode cX4_comes 114 = .ok (.aload_n 0, 1) := dk_42 (dk_at dksX4_comes_4 22 rfl rfl)
theorem dX4_comes_115 : decode cX4_comes 115 = .ok (.getfield 110, 3) := dk_180 0 110 (dk_at dksX4_comes_5 0 rfl rfl)
theorem dX4_comes_118 : decode cX4_comes 118 = .ok (.iload_n 1, 1) := dk_27 (dk_at dksX4_comes_5 3 rfl rfl)
theorem dX4_comes_119 : decode cX4_comes 119 = .ok (.iaload, 1) := dk_46 (dk_at dksX4_comes_5 4 rfl rfl)
theorem dX4_comes_120 : decode cX4_comes 120 = .ok (.invokestatic 394, 3) := dk_184 1 138 (dk_at dksX4_comes_5 5 rfl rfl)
theorem dX4_comes_123 : decode cX4_comes 123 = .ok (.iastore, 1) := dk_79 (dk_at dksX4_comes_5 8 rfl rfl)
theorem dX4_comes_124 : decode cX4_comes 124 = .ok (.iinc 2 1, 3) := dk_132 2 1 (dk_at dksX4_comes_5 9 rfl rfl)
theorem dX4_comes_127 : decode cX4_comes 127 = .ok (.goto (-115), 3) := dk_167 255 141 (dk_at dksX4_comes_5 12 rfl rfl)
theorem dX4_comes_130 : decode cX4_comes 130 = .ok (.aload_n 0, 1) := dk_42 (dk_at dksX4_comes_5 15 rfl rfl)
theorem dX4_comes_131 : decode cX4_comes 131 = .ok (.getfield 110, 3) := dk_180 0 110 (dk_at dksX4_comes_5 16 rfl rfl)
theorem dX4_comes_134 : decode cX4_comes 134 = .ok (.iconst 0, 1) := dk_3 (dk_at dksX4_comes_5 19 rfl rfl)
theorem dX4_comes_135 : decode cX4_comes 135 = .ok (.iaload, 1) := dk_46 (dk_at dksX4_comes_5 20 rfl rfl)
theorem dX4_comes_136 : decode cX4_comes 136 = .ok (.ireturn, 1) := dk_172 (dk_at dksX4_comes_5 21 rfl rfl)
abbrev cX4_asked : ByteArray := prog_22_method_40_code
def yX4_asked : MethodName := ⟨RX4, "asked", "(II)I"⟩
def dkwX4_asked_4 : List UInt8 := [180, 0, 113, 16, 40, 46, 172, 42, 180, 1, 129, 172, 28, 172]
abbrev dktX4_asked_4 : List UInt8 := dkwX4_asked_4 ++ []
def dkwX4_asked_3 : List UInt8 := [180, 1, 129, 5, 182, 1, 132, 172, 42, 180, 0, 113, 16, 15, 42, 180, 1, 129, 96, 46, 172, 42]
abbrev dktX4_asked_3 : List UInt8 := dkwX4_asked_3 ++ dktX4_asked_4
def dkwX4_asked_2 : List UInt8 := [42, 42, 180, 1, 129, 3, 182, 1, 132, 172, 42, 42, 180, 1, 129, 4, 182, 1, 132, 172, 42, 42]
abbrev dktX4_asked_2 : List UInt8 := dkwX4_asked_2 ++ dktX4_asked_3
def dkwX4_asked_1 : List UInt8 := [171, 0, 0, 0, 0, 0, 115, 0, 0, 0, 6, 0, 0, 0, 99, 0, 0, 0, 89, 0, 0, 0, 102, 0, 0, 0, 59, 0, 0, 0, 112, 0, 0, 0, 110, 0, 0, 0, 115, 0, 0, 0, 69, 0, 0, 0, 116, 0, 0, 0, 79, 0, 0, 0, 119, 0, 0, 0, 102]
abbrev dktX4_asked_1 : List UInt8 := dkwX4_asked_1 ++ dktX4_asked_2
def dkwX4_asked_0 : List UInt8 := [27]
abbrev dktX4_asked_0 : List UInt8 := dkwX4_asked_0 ++ dktX4_asked_1
theorem dksX4_asked_0 : cX4_asked.data.toList.drop 0 = dktX4_asked_0 := by decide +kernel
theorem dksX4_asked_1 : cX4_asked.data.toList.drop 1 = dktX4_asked_1 := dk_seg dksX4_asked_0 1 rfl rfl
theorem dksX4_asked_2 : cX4_asked.data.toList.drop 60 = dktX4_asked_2 := dk_seg dksX4_asked_1 59 rfl rfl
theorem dksX4_asked_3 : cX4_asked.data.toList.drop 82 = dktX4_asked_3 := dk_seg dksX4_asked_2 22 rfl rfl
theorem dksX4_asked_4 : cX4_asked.data.toList.drop 104 = dktX4_asked_4 := dk_seg dksX4_asked_3 22 rfl rfl
theorem dX4_asked_0 : decode cX4_asked 0 = .ok (.iload_n 1, 1) := dk_27 (dk_at dksX4_asked_0 0 rfl rfl)
theorem dX4_asked_1 : decode cX4_asked 1 = .ok (.lookupswitch 115 #[(99, 89), (102, 59), (112, 110), (115, 69), (116, 79), (119, 102)], 59) := by decide +kernel
theorem dX4_asked_60 : decode cX4_asked 60 = .ok (.aload_n 0, 1) := dk_42 (dk_at dksX4_asked_2 0 rfl rfl)
theorem dX4_asked_61 : decode cX4_asked 61 = .ok (.aload_n 0, 1) := dk_42 (dk_at dksX4_asked_2 1 rfl rfl)
theorem dX4_asked_62 : decode cX4_asked 62 = .ok (.getfield 385, 3) := dk_180 1 129 (dk_at dksX4_asked_2 2 rfl rfl)
theorem dX4_asked_65 : decode cX4_asked 65 = .ok (.iconst 0, 1) := dk_3 (dk_at dksX4_asked_2 5 rfl rfl)
theorem dX4_asked_66 : decode cX4_asked 66 = .ok (.invokevirtual 388, 3) := dk_182 1 132 (dk_at dksX4_asked_2 6 rfl rfl)
theorem dX4_asked_69 : decode cX4_asked 69 = .ok (.ireturn, 1) := dk_172 (dk_at dksX4_asked_2 9 rfl rfl)
theorem dX4_asked_70 : decode cX4_asked 70 = .ok (.aload_n 0, 1) := dk_42 (dk_at dksX4_asked_2 10 rfl rfl)
theorem dX4_asked_71 : decode cX4_asked 71 = .ok (.aload_n 0, 1) := dk_42 (dk_at dksX4_asked_2 11 rfl rfl)
theorem dX4_asked_72 : decode cX4_asked 72 = .ok (.getfield 385, 3) := dk_180 1 129 (dk_at dksX4_asked_2 12 rfl rfl)
theorem dX4_asked_75 : decode cX4_asked 75 = .ok (.iconst 1, 1) := dk_4 (dk_at dksX4_asked_2 15 rfl rfl)
theorem dX4_asked_76 : decode cX4_asked 76 = .ok (.invokevirtual 388, 3) := dk_182 1 132 (dk_at dksX4_asked_2 16 rfl rfl)
theorem dX4_asked_79 : decode cX4_asked 79 = .ok (.ireturn, 1) := dk_172 (dk_at dksX4_asked_2 19 rfl rfl)
theorem dX4_asked_80 : decode cX4_asked 80 = .ok (.aload_n 0, 1) := dk_42 (dk_at dksX4_asked_2 20 rfl rfl)
theorem dX4_asked_81 : decode cX4_asked 81 = .ok (.aload_n 0, 1) := dk_42 (dk_at dksX4_asked_2 21 rfl rfl)
theorem dX4_asked_82 : decode cX4_asked 82 = .ok (.getfield 385, 3) := dk_180 1 129 (dk_at dksX4_asked_3 0 rfl rfl)
theorem dX4_asked_85 : decode cX4_asked 85 = .ok (.iconst 2, 1) := dk_5 (dk_at dksX4_asked_3 3 rfl rfl)
theorem dX4_asked_86 : decode cX4_asked 86 = .ok (.invokevirtual 388, 3) := dk_182 1 132 (dk_at dksX4_asked_3 4 rfl rfl)
theorem dX4_asked_89 : decode cX4_asked 89 = .ok (.ireturn, 1) := dk_172 (dk_at dksX4_asked_3 7 rfl rfl)
theorem dX4_asked_90 : decode cX4_asked 90 = .ok (.aload_n 0, 1) := dk_42 (dk_at dksX4_asked_3 8 rfl rfl)
theorem dX4_asked_91 : decode cX4_asked 91 = .ok (.getfield 113, 3) := dk_180 0 113 (dk_at dksX4_asked_3 9 rfl rfl)
theorem dX4_asked_94 : decode cX4_asked 94 = .ok (.bipush 15, 2) := dk_16 15 (dk_at dksX4_asked_3 12 rfl rfl)
theorem dX4_asked_96 : decode cX4_asked 96 = .ok (.aload_n 0, 1) := dk_42 (dk_at dksX4_asked_3 14 rfl rfl)
theorem dX4_asked_97 : decode cX4_asked 97 = .ok (.getfield 385, 3) := dk_180 1 129 (dk_at dksX4_asked_3 15 rfl rfl)
theorem dX4_asked_100 : decode cX4_asked 100 = .ok (.iadd, 1) := dk_96 (dk_at dksX4_asked_3 18 rfl rfl)
theorem dX4_asked_101 : decode cX4_asked 101 = .ok (.iaload, 1) := dk_46 (dk_at dksX4_asked_3 19 rfl rfl)
theorem dX4_asked_102 : decode cX4_asked 102 = .ok (.ireturn, 1) := dk_172 (dk_at dksX4_asked_3 20 rfl rfl)
theorem dX4_asked_103 : decode cX4_asked 103 = .ok (.aload_n 0, 1) := dk_42 (dk_at dksX4_asked_3 21 rfl rfl)
theorem dX4_asked_104 : decode cX4_asked 104 = .ok (.getfield 113, 3) := dk_180 0 113 (dk_at dksX4_asked_4 0 rfl rfl)
theorem dX4_asked_107 : decode cX4_asked 107 = .ok (.bipush 40, 2) := dk_16 40 (dk_at dksX4_asked_4 3 rfl rfl)
theorem dX4_asked_109 : decode cX4_asked 109 = .ok (.iaload, 1) := dk_46 (dk_at dksX4_asked_4 5 rfl rfl)
theorem dX4_asked_110 : decode cX4_asked 110 = .ok (.ireturn, 1) := dk_172 (dk_at dksX4_asked_4 6 rfl rfl)
theorem dX4_asked_111 : decode cX4_asked 111 = .ok (.aload_n 0, 1) := dk_42 (dk_at dksX4_asked_4 7 rfl rfl)
theorem dX4_asked_112 : decode cX4_asked 112 = .ok (.getfield 385, 3) := dk_180 1 129 (dk_at dksX4_asked_4 8 rfl rfl)
theorem dX4_asked_115 : decode cX4_asked 115 = .ok (.ireturn, 1) := dk_172 (dk_at dksX4_asked_4 11 rfl rfl)
theorem dX4_asked_116 : decode cX4_asked 116 = .ok (.iload_n 2, 1) := dk_28 (dk_at dksX4_asked_4 12 rfl rfl)
theorem dX4_asked_117 : decode cX4_asked 117 = .ok (.ireturn, 1) := dk_172 (dk_at dksX4_asked_4 13 rfl rfl)
abbrev cX4_two : ByteArray := prog_22_method_38_code
def yX4_two : MethodName := ⟨RX4, "two", "(III)I"⟩
def dkwX4_two_6 : List UInt8 := [167, 0, 4, 3, 172]
abbrev dktX4_two_6 : List UInt8 := dkwX4_two_6 ++ []
def dkwX4_two_5 : List UInt8 := [153, 0, 11, 28, 153, 0, 7, 4, 167, 0, 4, 3, 172, 27, 154, 0, 7, 28, 153, 0, 7, 4]
abbrev dktX4_two_5 : List UInt8 := dkwX4_two_5 ++ dktX4_two_6
def dkwX4_two_4 : List UInt8 := [28, 164, 0, 7, 4, 167, 0, 4, 3, 172, 27, 28, 160, 0, 7, 4, 167, 0, 4, 3, 172, 27]
abbrev dktX4_two_4 : List UInt8 := dkwX4_two_4 ++ dktX4_two_5
def dkwX4_two_3 : List UInt8 := [28, 154, 0, 7, 3, 167, 0, 6, 27, 28, 112, 172, 27, 28, 162, 0, 7, 4, 167, 0, 4, 3, 172, 27]
abbrev dktX4_two_3 : List UInt8 := dkwX4_two_3 ++ dktX4_two_4
def dkwX4_two_2 : List UInt8 := [27, 28, 96, 172, 27, 28, 100, 172, 27, 28, 104, 172, 28, 154, 0, 7, 3, 167, 0, 6, 27, 28, 108, 172]
abbrev dktX4_two_2 : List UInt8 := dkwX4_two_2 ++ dktX4_two_3
def dkwX4_two_1 : List UInt8 := [170, 0, 0, 0, 0, 0, 202, 0, 0, 0, 37, 0, 0, 0, 62, 0, 0, 0, 143, 0, 0, 0, 188, 0, 0, 0, 202, 0, 0, 0, 202, 0, 0, 0, 202, 0, 0, 0, 127, 0, 0, 0, 119, 0, 0, 0, 202, 0, 0, 0, 123, 0, 0, 0, 202, 0, 0, 0, 131, 0, 0, 0, 202, 0, 0, 0, 202, 0, 0, 0, 202, 0, 0, 0, 202, 0, 0, 0, 202, 0, 0, 0, 202, 0, 0, 0, 202, 0, 0, 0, 202, 0, 0, 0, 202, 0, 0, 0, 202, 0, 0, 0, 202, 0, 0, 0, 202, 0, 0, 0, 155, 0, 0, 0, 177, 0, 0, 0, 166]
abbrev dktX4_two_1 : List UInt8 := dkwX4_two_1 ++ dktX4_two_2
def dkwX4_two_0 : List UInt8 := [26]
abbrev dktX4_two_0 : List UInt8 := dkwX4_two_0 ++ dktX4_two_1
theorem dksX4_two_0 : cX4_two.data.toList.drop 0 = dktX4_two_0 := by decide +kernel
theorem dksX4_two_1 : cX4_two.data.toList.drop 1 = dktX4_two_1 := dk_seg dksX4_two_0 1 rfl rfl
theorem dksX4_two_2 : cX4_two.data.toList.drop 120 = dktX4_two_2 := dk_seg dksX4_two_1 119 rfl rfl
theorem dksX4_two_3 : cX4_two.data.toList.drop 144 = dktX4_two_3 := dk_seg dksX4_two_2 24 rfl rfl
theorem dksX4_two_4 : cX4_two.data.toList.drop 168 = dktX4_two_4 := dk_seg dksX4_two_3 24 rfl rfl
theorem dksX4_two_5 : cX4_two.data.toList.drop 190 = dktX4_two_5 := dk_seg dksX4_two_4 22 rfl rfl
theorem dksX4_two_6 : cX4_two.data.toList.drop 212 = dktX4_two_6 := dk_seg dksX4_two_5 22 rfl rfl
theorem dX4_two_0 : decode cX4_two 0 = .ok (.iload_n 0, 1) := dk_26 (dk_at dksX4_two_0 0 rfl rfl)
theorem dX4_two_1 : decode cX4_two 1 = .ok (.tableswitch 202 37 62 #[143, 188, 202, 202, 202, 127, 119, 202, 123, 202, 131, 202, 202, 202, 202, 202, 202, 202, 202, 202, 202, 202, 202, 155, 177, 166], 119) := by decide +kernel
theorem dX4_two_120 : decode cX4_two 120 = .ok (.iload_n 1, 1) := dk_27 (dk_at dksX4_two_2 0 rfl rfl)
theorem dX4_two_121 : decode cX4_two 121 = .ok (.iload_n 2, 1) := dk_28 (dk_at dksX4_two_2 1 rfl rfl)
theorem dX4_two_122 : decode cX4_two 122 = .ok (.iadd, 1) := dk_96 (dk_at dksX4_two_2 2 rfl rfl)
theorem dX4_two_123 : decode cX4_two 123 = .ok (.ireturn, 1) := dk_172 (dk_at dksX4_two_2 3 rfl rfl)
theorem dX4_two_124 : decode cX4_two 124 = .ok (.iload_n 1, 1) := dk_27 (dk_at dksX4_two_2 4 rfl rfl)
theorem dX4_two_125 : decode cX4_two 125 = .ok (.iload_n 2, 1) := dk_28 (dk_at dksX4_two_2 5 rfl rfl)
theorem dX4_two_126 : decode cX4_two 126 = .ok (.isub, 1) := dk_100 (dk_at dksX4_two_2 6 rfl rfl)
theorem dX4_two_127 : decode cX4_two 127 = .ok (.ireturn, 1) := dk_172 (dk_at dksX4_two_2 7 rfl rfl)
theorem dX4_two_128 : decode cX4_two 128 = .ok (.iload_n 1, 1) := dk_27 (dk_at dksX4_two_2 8 rfl rfl)
theorem dX4_two_129 : decode cX4_two 129 = .ok (.iload_n 2, 1) := dk_28 (dk_at dksX4_two_2 9 rfl rfl)
theorem dX4_two_130 : decode cX4_two 130 = .ok (.imul, 1) := dk_104 (dk_at dksX4_two_2 10 rfl rfl)
theorem dX4_two_131 : decode cX4_two 131 = .ok (.ireturn, 1) := dk_172 (dk_at dksX4_two_2 11 rfl rfl)
theorem dX4_two_132 : decode cX4_two 132 = .ok (.iload_n 2, 1) := dk_28 (dk_at dksX4_two_2 12 rfl rfl)
theorem dX4_two_133 : decode cX4_two 133 = .ok (.ifCond .ne 7, 3) := dk_154 0 7 (dk_at dksX4_two_2 13 rfl rfl)
theorem dX4_two_136 : decode cX4_two 136 = .ok (.iconst 0, 1) := dk_3 (dk_at dksX4_two_2 16 rfl rfl)
theorem dX4_two_137 : decode cX4_two 137 = .ok (.goto 6, 3) := dk_167 0 6 (dk_at dksX4_two_2 17 rfl rfl)
theorem dX4_two_140 : decode cX4_two 140 = .ok (.iload_n 1, 1) := dk_27 (dk_at dksX4_two_2 20 rfl rfl)
theorem dX4_two_141 : decode cX4_two 141 = .ok (.iload_n 2, 1) := dk_28 (dk_at dksX4_two_2 21 rfl rfl)
theorem dX4_two_142 : decode cX4_two 142 = .ok (.idiv, 1) := dk_108 (dk_at dksX4_two_2 22 rfl rfl)
theorem dX4_two_143 : decode cX4_two 143 = .ok (.ireturn, 1) := dk_172 (dk_at dksX4_two_2 23 rfl rfl)
theorem dX4_two_144 : decode cX4_two 144 = .ok (.iload_n 2, 1) := dk_28 (dk_at dksX4_two_3 0 rfl rfl)
theorem dX4_two_145 : decode cX4_two 145 = .ok (.ifCond .ne 7, 3) := dk_154 0 7 (dk_at dksX4_two_3 1 rfl rfl)
theorem dX4_two_148 : decode cX4_two 148 = .ok (.iconst 0, 1) := dk_3 (dk_at dksX4_two_3 4 rfl rfl)
theorem dX4_two_149 : decode cX4_two 149 = .ok (.goto 6, 3) := dk_167 0 6 (dk_at dksX4_two_3 5 rfl rfl)
theorem dX4_two_152 : decode cX4_two 152 = .ok (.iload_n 1, 1) := dk_27 (dk_at dksX4_two_3 8 rfl rfl)
theorem dX4_two_153 : decode cX4_two 153 = .ok (.iload_n 2, 1) := dk_28 (dk_at dksX4_two_3 9 rfl rfl)
theorem dX4_two_154 : decode cX4_two 154 = .ok (.irem, 1) := dk_112 (dk_at dksX4_two_3 10 rfl rfl)
theorem dX4_two_155 : decode cX4_two 155 = .ok (.ireturn, 1) := dk_172 (dk_at dksX4_two_3 11 rfl rfl)
theorem dX4_two_156 : decode cX4_two 156 = .ok (.iload_n 1, 1) := dk_27 (dk_at dksX4_two_3 12 rfl rfl)
theorem dX4_two_157 : decode cX4_two 157 = .ok (.iload_n 2, 1) := dk_28 (dk_at dksX4_two_3 13 rfl rfl)
theorem dX4_two_158 : decode cX4_two 158 = .ok (.if_icmp .ge 7, 3) := dk_162 0 7 (dk_at dksX4_two_3 14 rfl rfl)
theorem dX4_two_161 : decode cX4_two 161 = .ok (.iconst 1, 1) := dk_4 (dk_at dksX4_two_3 17 rfl rfl)
theorem dX4_two_162 : decode cX4_two 162 = .ok (.goto 4, 3) := dk_167 0 4 (dk_at dksX4_two_3 18 rfl rfl)
theorem dX4_two_165 : decode cX4_two 165 = .ok (.iconst 0, 1) := dk_3 (dk_at dksX4_two_3 21 rfl rfl)
theorem dX4_two_166 : decode cX4_two 166 = .ok (.ireturn, 1) := dk_172 (dk_at dksX4_two_3 22 rfl rfl)
theorem dX4_two_167 : decode cX4_two 167 = .ok (.iload_n 1, 1) := dk_27 (dk_at dksX4_two_3 23 rfl rfl)
theorem dX4_two_168 : decode cX4_two 168 = .ok (.iload_n 2, 1) := dk_28 (dk_at dksX4_two_4 0 rfl rfl)
theorem dX4_two_169 : decode cX4_two 169 = .ok (.if_icmp .le 7, 3) := dk_164 0 7 (dk_at dksX4_two_4 1 rfl rfl)
theorem dX4_two_172 : decode cX4_two 172 = .ok (.iconst 1, 1) := dk_4 (dk_at dksX4_two_4 4 rfl rfl)
theorem dX4_two_173 : decode cX4_two 173 = .ok (.goto 4, 3) := dk_167 0 4 (dk_at dksX4_two_4 5 rfl rfl)
theorem dX4_two_176 : decode cX4_two 176 = .ok (.iconst 0, 1) := dk_3 (dk_at dksX4_two_4 8 rfl rfl)
theorem dX4_two_177 : decode cX4_two 177 = .ok (.ireturn, 1) := dk_172 (dk_at dksX4_two_4 9 rfl rfl)
theorem dX4_two_178 : decode cX4_two 178 = .ok (.iload_n 1, 1) := dk_27 (dk_at dksX4_two_4 10 rfl rfl)
theorem dX4_two_179 : decode cX4_two 179 = .ok (.iload_n 2, 1) := dk_28 (dk_at dksX4_two_4 11 rfl rfl)
theorem dX4_two_180 : decode cX4_two 180 = .ok (.if_icmp .ne 7, 3) := dk_160 0 7 (dk_at dksX4_two_4 12 rfl rfl)
theorem dX4_two_183 : decode cX4_two 183 = .ok (.iconst 1, 1) := dk_4 (dk_at dksX4_two_4 15 rfl rfl)
theorem dX4_two_184 : decode cX4_two 184 = .ok (.goto 4, 3) := dk_167 0 4 (dk_at dksX4_two_4 16 rfl rfl)
theorem dX4_two_187 : decode cX4_two 187 = .ok (.iconst 0, 1) := dk_3 (dk_at dksX4_two_4 19 rfl rfl)
theorem dX4_two_188 : decode cX4_two 188 = .ok (.ireturn, 1) := dk_172 (dk_at dksX4_two_4 20 rfl rfl)
theorem dX4_two_189 : decode cX4_two 189 = .ok (.iload_n 1, 1) := dk_27 (dk_at dksX4_two_4 21 rfl rfl)
theorem dX4_two_190 : decode cX4_two 190 = .ok (.ifCond .eq 11, 3) := dk_153 0 11 (dk_at dksX4_two_5 0 rfl rfl)
theorem dX4_two_193 : decode cX4_two 193 = .ok (.iload_n 2, 1) := dk_28 (dk_at dksX4_two_5 3 rfl rfl)
theorem dX4_two_194 : decode cX4_two 194 = .ok (.ifCond .eq 7, 3) := dk_153 0 7 (dk_at dksX4_two_5 4 rfl rfl)
theorem dX4_two_197 : decode cX4_two 197 = .ok (.iconst 1, 1) := dk_4 (dk_at dksX4_two_5 7 rfl rfl)
theorem dX4_two_198 : decode cX4_two 198 = .ok (.goto 4, 3) := dk_167 0 4 (dk_at dksX4_two_5 8 rfl rfl)
theorem dX4_two_201 : decode cX4_two 201 = .ok (.iconst 0, 1) := dk_3 (dk_at dksX4_two_5 11 rfl rfl)
theorem dX4_two_202 : decode cX4_two 202 = .ok (.ireturn, 1) := dk_172 (dk_at dksX4_two_5 12 rfl rfl)
theorem dX4_two_203 : decode cX4_two 203 = .ok (.iload_n 1, 1) := dk_27 (dk_at dksX4_two_5 13 rfl rfl)
theorem dX4_two_204 : decode cX4_two 204 = .ok (.ifCond .ne 7, 3) := dk_154 0 7 (dk_at dksX4_two_5 14 rfl rfl)
theorem dX4_two_207 : decode cX4_two 207 = .ok (.iload_n 2, 1) := dk_28 (dk_at dksX4_two_5 17 rfl rfl)
theorem dX4_two_208 : decode cX4_two 208 = .ok (.ifCond .eq 7, 3) := dk_153 0 7 (dk_at dksX4_two_5 18 rfl rfl)
theorem dX4_two_211 : decode cX4_two 211 = .ok (.iconst 1, 1) := dk_4 (dk_at dksX4_two_5 21 rfl rfl)
theorem dX4_two_212 : decode cX4_two 212 = .ok (.goto 4, 3) := dk_167 0 4 (dk_at dksX4_two_6 0 rfl rfl)
theorem dX4_two_215 : decode cX4_two 215 = .ok (.iconst 0, 1) := dk_3 (dk_at dksX4_two_6 3 rfl rfl)
theorem dX4_two_216 : decode cX4_two 216 = .ok (.ireturn, 1) := dk_172 (dk_at dksX4_two_6 4 rfl rfl)
abbrev cX4_sumOf : ByteArray := prog_22_method_58_code
def yX4_sumOf : MethodName := ⟨RX4, "sumOf", "(II)I"⟩
def dkwX4_sumOf_1 : List UInt8 := [180, 0, 113, 27, 6, 28, 104, 96, 5, 96, 46, 96, 172]
abbrev dktX4_sumOf_1 : List UInt8 := dkwX4_sumOf_1 ++ []
def dkwX4_sumOf_0 : List UInt8 := [42, 180, 0, 113, 27, 6, 28, 104, 96, 46, 42, 180, 0, 113, 27, 6, 28, 104, 96, 4, 96, 46, 96, 42]
abbrev dktX4_sumOf_0 : List UInt8 := dkwX4_sumOf_0 ++ dktX4_sumOf_1
theorem dksX4_sumOf_0 : cX4_sumOf.data.toList.drop 0 = dktX4_sumOf_0 := by decide +kernel
theorem dksX4_sumOf_1 : cX4_sumOf.data.toList.drop 24 = dktX4_sumOf_1 := dk_seg dksX4_sumOf_0 24 rfl rfl
theorem dX4_sumOf_0 : decode cX4_sumOf 0 = .ok (.aload_n 0, 1) := dk_42 (dk_at dksX4_sumOf_0 0 rfl rfl)
theorem dX4_sumOf_1 : decode cX4_sumOf 1 = .ok (.getfield 113, 3) := dk_180 0 113 (dk_at dksX4_sumOf_0 1 rfl rfl)
theorem dX4_sumOf_4 : decode cX4_sumOf 4 = .ok (.iload_n 1, 1) := dk_27 (dk_at dksX4_sumOf_0 4 rfl rfl)
theorem dX4_sumOf_5 : decode cX4_sumOf 5 = .ok (.iconst 3, 1) := dk_6 (dk_at dksX4_sumOf_0 5 rfl rfl)
theorem dX4_sumOf_6 : decode cX4_sumOf 6 = .ok (.iload_n 2, 1) := dk_28 (dk_at dksX4_sumOf_0 6 rfl rfl)
theorem dX4_sumOf_7 : decode cX4_sumOf 7 = .ok (.imul, 1) := dk_104 (dk_at dksX4_sumOf_0 7 rfl rfl)
theorem dX4_sumOf_8 : decode cX4_sumOf 8 = .ok (.iadd, 1) := dk_96 (dk_at dksX4_sumOf_0 8 rfl rfl)
theorem dX4_sumOf_9 : decode cX4_sumOf 9 = .ok (.iaload, 1) := dk_46 (dk_at dksX4_sumOf_0 9 rfl rfl)
theorem dX4_sumOf_10 : decode cX4_sumOf 10 = .ok (.aload_n 0, 1) := dk_42 (dk_at dksX4_sumOf_0 10 rfl rfl)
theorem dX4_sumOf_11 : decode cX4_sumOf 11 = .ok (.getfield 113, 3) := dk_180 0 113 (dk_at dksX4_sumOf_0 11 rfl rfl)
theorem dX4_sumOf_14 : decode cX4_sumOf 14 = .ok (.iload_n 1, 1) := dk_27 (dk_at dksX4_sumOf_0 14 rfl rfl)
theorem dX4_sumOf_15 : decode cX4_sumOf 15 = .ok (.iconst 3, 1) := dk_6 (dk_at dksX4_sumOf_0 15 rfl rfl)
theorem dX4_sumOf_16 : decode cX4_sumOf 16 = .ok (.iload_n 2, 1) := dk_28 (dk_at dksX4_sumOf_0 16 rfl rfl)
theorem dX4_sumOf_17 : decode cX4_sumOf 17 = .ok (.imul, 1) := dk_104 (dk_at dksX4_sumOf_0 17 rfl rfl)
theorem dX4_sumOf_18 : decode cX4_sumOf 18 = .ok (.iadd, 1) := dk_96 (dk_at dksX4_sumOf_0 18 rfl rfl)
theorem dX4_sumOf_19 : decode cX4_sumOf 19 = .ok (.iconst 1, 1) := dk_4 (dk_at dksX4_sumOf_0 19 rfl rfl)
theorem dX4_sumOf_20 : decode cX4_sumOf 20 = .ok (.iadd, 1) := dk_96 (dk_at dksX4_sumOf_0 20 rfl rfl)
theorem dX4_sumOf_21 : decode cX4_sumOf 21 = .ok (.iaload, 1) := dk_46 (dk_at dksX4_sumOf_0 21 rfl rfl)
theorem dX4_sumOf_22 : decode cX4_sumOf 22 = .ok (.iadd, 1) := dk_96 (dk_at dksX4_sumOf_0 22 rfl rfl)
theorem dX4_sumOf_23 : decode cX4_sumOf 23 = .ok (.aload_n 0, 1) := dk_42 (dk_at dksX4_sumOf_0 23 rfl rfl)
theorem dX4_sumOf_24 : decode cX4_sumOf 24 = .ok (.getfield 113, 3) := dk_180 0 113 (dk_at dksX4_sumOf_1 0 rfl rfl)
theorem dX4_sumOf_27 : decode cX4_sumOf 27 = .ok (.iload_n 1, 1) := dk_27 (dk_at dksX4_sumOf_1 3 rfl rfl)
theorem dX4_sumOf_28 : decode cX4_sumOf 28 = .ok (.iconst 3, 1) := dk_6 (dk_at dksX4_sumOf_1 4 rfl rfl)
theorem dX4_sumOf_29 : decode cX4_sumOf 29 = .ok (.iload_n 2, 1) := dk_28 (dk_at dksX4_sumOf_1 5 rfl rfl)
theorem dX4_sumOf_30 : decode cX4_sumOf 30 = .ok (.imul, 1) := dk_104 (dk_at dksX4_sumOf_1 6 rfl rfl)
theorem dX4_sumOf_31 : decode cX4_sumOf 31 = .ok (.iadd, 1) := dk_96 (dk_at dksX4_sumOf_1 7 rfl rfl)
theorem dX4_sumOf_32 : decode cX4_sumOf 32 = .ok (.iconst 2, 1) := dk_5 (dk_at dksX4_sumOf_1 8 rfl rfl)
theorem dX4_sumOf_33 : decode cX4_sumOf 33 = .ok (.iadd, 1) := dk_96 (dk_at dksX4_sumOf_1 9 rfl rfl)
theorem dX4_sumOf_34 : decode cX4_sumOf 34 = .ok (.iaload, 1) := dk_46 (dk_at dksX4_sumOf_1 10 rfl rfl)
theorem dX4_sumOf_35 : decode cX4_sumOf 35 = .ok (.iadd, 1) := dk_96 (dk_at dksX4_sumOf_1 11 rfl rfl)
theorem dX4_sumOf_36 : decode cX4_sumOf 36 = .ok (.ireturn, 1) := dk_172 (dk_at dksX4_sumOf_1 12 rfl rfl)
abbrev cX4_payOf : ByteArray := prog_22_method_51_code
def yX4_payOf : MethodName := ⟨RX4, "payOf", "(II)I"⟩
def dkwX4_payOf_0 : List UInt8 := [42, 180, 0, 57, 6, 8, 42, 180, 1, 45, 104, 27, 96, 104, 28, 96, 46, 172]
abbrev dktX4_payOf_0 : List UInt8 := dkwX4_payOf_0 ++ []
theorem dksX4_payOf_0 : cX4_payOf.data.toList.drop 0 = dktX4_payOf_0 := by decide +kernel
theorem dX4_payOf_0 : decode cX4_payOf 0 = .ok (.aload_n 0, 1) := dk_42 (dk_at dksX4_payOf_0 0 rfl rfl)
theorem dX4_payOf_1 : decode cX4_payOf 1 = .ok (.getfield 57, 3) := dk_180 0 57 (dk_at dksX4_payOf_0 1 rfl rfl)
theorem dX4_payOf_4 : decode cX4_payOf 4 = .ok (.iconst 3, 1) := dk_6 (dk_at dksX4_payOf_0 4 rfl rfl)
theorem dX4_payOf_5 : decode cX4_payOf 5 = .ok (.iconst 5, 1) := dk_8 (dk_at dksX4_payOf_0 5 rfl rfl)
theorem dX4_payOf_6 : decode cX4_payOf 6 = .ok (.aload_n 0, 1) := dk_42 (dk_at dksX4_payOf_0 6 rfl rfl)
theorem dX4_payOf_7 : decode cX4_payOf 7 = .ok (.getfield 301, 3) := dk_180 1 45 (dk_at dksX4_payOf_0 7 rfl rfl)
theorem dX4_payOf_10 : decode cX4_payOf 10 = .ok (.imul, 1) := dk_104 (dk_at dksX4_payOf_0 10 rfl rfl)
theorem dX4_payOf_11 : decode cX4_payOf 11 = .ok (.iload_n 1, 1) := dk_27 (dk_at dksX4_payOf_0 11 rfl rfl)
theorem dX4_payOf_12 : decode cX4_payOf 12 = .ok (.iadd, 1) := dk_96 (dk_at dksX4_payOf_0 12 rfl rfl)
theorem dX4_payOf_13 : decode cX4_payOf 13 = .ok (.imul, 1) := dk_104 (dk_at dksX4_payOf_0 13 rfl rfl)
theorem dX4_payOf_14 : decode cX4_payOf 14 = .ok (.iload_n 2, 1) := dk_28 (dk_at dksX4_payOf_0 14 rfl rfl)
theorem dX4_payOf_15 : decode cX4_payOf 15 = .ok (.iadd, 1) := dk_96 (dk_at dksX4_payOf_0 15 rfl rfl)
theorem dX4_payOf_16 : decode cX4_payOf 16 = .ok (.iaload, 1) := dk_46 (dk_at dksX4_payOf_0 16 rfl rfl)
theorem dX4_payOf_17 : decode cX4_payOf 17 = .ok (.ireturn, 1) := dk_172 (dk_at dksX4_payOf_0 17 rfl rfl)
abbrev cX4_purse : ByteArray := prog_22_method_60_code
def yX4_purse : MethodName := ⟨RX4, "purse", "(II)I"⟩
def dkwX4_purse_1 : List UInt8 := [167, 0, 4, 2, 172]
abbrev dktX4_purse_1 : List UInt8 := dkwX4_purse_1 ++ []
def dkwX4_purse_0 : List UInt8 := [42, 27, 182, 1, 170, 153, 0, 20, 42, 28, 182, 1, 180, 153, 0, 12, 42, 27, 28, 182, 1, 183]
abbrev dktX4_purse_0 : List UInt8 := dkwX4_purse_0 ++ dktX4_purse_1
theorem dksX4_purse_0 : cX4_purse.data.toList.drop 0 = dktX4_purse_0 := by decide +kernel
theorem dksX4_purse_1 : cX4_purse.data.toList.drop 22 = dktX4_purse_1 := dk_seg dksX4_purse_0 22 rfl rfl
theorem dX4_purse_0 : decode cX4_purse 0 = .ok (.aload_n 0, 1) := dk_42 (dk_at dksX4_purse_0 0 rfl rfl)
theorem dX4_purse_1 : decode cX4_purse 1 = .ok (.iload_n 1, 1) := dk_27 (dk_at dksX4_purse_0 1 rfl rfl)
theorem dX4_purse_2 : decode cX4_purse 2 = .ok (.invokevirtual 426, 3) := dk_182 1 170 (dk_at dksX4_purse_0 2 rfl rfl)
theorem dX4_purse_5 : decode cX4_purse 5 = .ok (.ifCond .eq 20, 3) := dk_153 0 20 (dk_at dksX4_purse_0 5 rfl rfl)
theorem dX4_purse_8 : decode cX4_purse 8 = .ok (.aload_n 0, 1) := dk_42 (dk_at dksX4_purse_0 8 rfl rfl)
theorem dX4_purse_9 : decode cX4_purse 9 = .ok (.iload_n 2, 1) := dk_28 (dk_at dksX4_purse_0 9 rfl rfl)
theorem dX4_purse_10 : decode cX4_purse 10 = .ok (.invokevirtual 436, 3) := dk_182 1 180 (dk_at dksX4_purse_0 10 rfl rfl)
theorem dX4_purse_13 : decode cX4_purse 13 = .ok (.ifCond .eq 12, 3) := dk_153 0 12 (dk_at dksX4_purse_0 13 rfl rfl)
theorem dX4_purse_16 : decode cX4_purse 16 = .ok (.aload_n 0, 1) := dk_42 (dk_at dksX4_purse_0 16 rfl rfl)
theorem dX4_purse_17 : decode cX4_purse 17 = .ok (.iload_n 1, 1) := dk_27 (dk_at dksX4_purse_0 17 rfl rfl)
theorem dX4_purse_18 : decode cX4_purse 18 = .ok (.iload_n 2, 1) := dk_28 (dk_at dksX4_purse_0 18 rfl rfl)
theorem dX4_purse_19 : decode cX4_purse 19 = .ok (.invokevirtual 439, 3) := dk_182 1 183 (dk_at dksX4_purse_0 19 rfl rfl)
theorem dX4_purse_22 : decode cX4_purse 22 = .ok (.goto 4, 3) := dk_167 0 4 (dk_at dksX4_purse_1 0 rfl rfl)
theorem dX4_purse_25 : decode cX4_purse 25 = .ok (.iconst (-1), 1) := dk_2 (dk_at dksX4_purse_1 3 rfl rfl)
theorem dX4_purse_26 : decode cX4_purse 26 = .ok (.ireturn, 1) := dk_172 (dk_at dksX4_purse_1 4 rfl rfl)
abbrev cX4_isKind : ByteArray := prog_22_method_49_code
def yX4_isKind : MethodName := ⟨RX4, "isKind", "(I)Z"⟩
def dkwX4_isKind_0 : List UInt8 := [27, 3, 42, 180, 0, 20, 42, 180, 1, 45, 46, 4, 100, 184, 1, 145, 172]
abbrev dktX4_isKind_0 : List UInt8 := dkwX4_isKind_0 ++ []
theorem dksX4_isKind_0 : cX4_isKind.data.toList.drop 0 = dktX4_isKind_0 := by decide +kernel
theorem dX4_isKind_0 : decode cX4_isKind 0 = .ok (.iload_n 1, 1) := dk_27 (dk_at dksX4_isKind_0 0 rfl rfl)
theorem dX4_isKind_1 : decode cX4_isKind 1 = .ok (.iconst 0, 1) := dk_3 (dk_at dksX4_isKind_0 1 rfl rfl)
theorem dX4_isKind_2 : decode cX4_isKind 2 = .ok (.aload_n 0, 1) := dk_42 (dk_at dksX4_isKind_0 2 rfl rfl)
theorem dX4_isKind_3 : decode cX4_isKind 3 = .ok (.getfield 20, 3) := dk_180 0 20 (dk_at dksX4_isKind_0 3 rfl rfl)
theorem dX4_isKind_6 : decode cX4_isKind 6 = .ok (.aload_n 0, 1) := dk_42 (dk_at dksX4_isKind_0 6 rfl rfl)
theorem dX4_isKind_7 : decode cX4_isKind 7 = .ok (.getfield 301, 3) := dk_180 1 45 (dk_at dksX4_isKind_0 7 rfl rfl)
theorem dX4_isKind_10 : decode cX4_isKind 10 = .ok (.iaload, 1) := dk_46 (dk_at dksX4_isKind_0 10 rfl rfl)
theorem dX4_isKind_11 : decode cX4_isKind 11 = .ok (.iconst 1, 1) := dk_4 (dk_at dksX4_isKind_0 11 rfl rfl)
theorem dX4_isKind_12 : decode cX4_isKind 12 = .ok (.isub, 1) := dk_100 (dk_at dksX4_isKind_0 12 rfl rfl)
theorem dX4_isKind_13 : decode cX4_isKind 13 = .ok (.invokestatic 401, 3) := dk_184 1 145 (dk_at dksX4_isKind_0 13 rfl rfl)
theorem dX4_isKind_16 : decode cX4_isKind 16 = .ok (.ireturn, 1) := dk_172 (dk_at dksX4_isKind_0 16 rfl rfl)
abbrev cX4_inPurse : ByteArray := prog_22_method_50_code
def yX4_inPurse : MethodName := ⟨RX4, "inPurse", "(II)I"⟩
def dkwX4_inPurse_0 : List UInt8 := [42, 180, 0, 113, 3, 6, 27, 104, 96, 28, 96, 46, 172]
abbrev dktX4_inPurse_0 : List UInt8 := dkwX4_inPurse_0 ++ []
theorem dksX4_inPurse_0 : cX4_inPurse.data.toList.drop 0 = dktX4_inPurse_0 := by decide +kernel
theorem dX4_inPurse_0 : decode cX4_inPurse 0 = .ok (.aload_n 0, 1) := dk_42 (dk_at dksX4_inPurse_0 0 rfl rfl)
theorem dX4_inPurse_1 : decode cX4_inPurse 1 = .ok (.getfield 113, 3) := dk_180 0 113 (dk_at dksX4_inPurse_0 1 rfl rfl)
theorem dX4_inPurse_4 : decode cX4_inPurse 4 = .ok (.iconst 0, 1) := dk_3 (dk_at dksX4_inPurse_0 4 rfl rfl)
theorem dX4_inPurse_5 : decode cX4_inPurse 5 = .ok (.iconst 3, 1) := dk_6 (dk_at dksX4_inPurse_0 5 rfl rfl)
theorem dX4_inPurse_6 : decode cX4_inPurse 6 = .ok (.iload_n 1, 1) := dk_27 (dk_at dksX4_inPurse_0 6 rfl rfl)
theorem dX4_inPurse_7 : decode cX4_inPurse 7 = .ok (.imul, 1) := dk_104 (dk_at dksX4_inPurse_0 7 rfl rfl)
theorem dX4_inPurse_8 : decode cX4_inPurse 8 = .ok (.iadd, 1) := dk_96 (dk_at dksX4_inPurse_0 8 rfl rfl)
theorem dX4_inPurse_9 : decode cX4_inPurse 9 = .ok (.iload_n 2, 1) := dk_28 (dk_at dksX4_inPurse_0 9 rfl rfl)
theorem dX4_inPurse_10 : decode cX4_inPurse 10 = .ok (.iadd, 1) := dk_96 (dk_at dksX4_inPurse_0 10 rfl rfl)
theorem dX4_inPurse_11 : decode cX4_inPurse 11 = .ok (.iaload, 1) := dk_46 (dk_at dksX4_inPurse_0 11 rfl rfl)
theorem dX4_inPurse_12 : decode cX4_inPurse 12 = .ok (.ireturn, 1) := dk_172 (dk_at dksX4_inPurse_0 12 rfl rfl)
abbrev cX4_over : ByteArray := prog_22_method_61_code
def yX4_over : MethodName := ⟨RX4, "over", "(II)I"⟩
def dkwX4_over_1 : List UInt8 := [167, 0, 4, 2, 172]
abbrev dktX4_over_1 : List UInt8 := dkwX4_over_1 ++ []
def dkwX4_over_0 : List UInt8 := [42, 27, 182, 1, 170, 153, 0, 20, 42, 28, 182, 1, 180, 153, 0, 12, 42, 27, 28, 182, 1, 132]
abbrev dktX4_over_0 : List UInt8 := dkwX4_over_0 ++ dktX4_over_1
theorem dksX4_over_0 : cX4_over.data.toList.drop 0 = dktX4_over_0 := by decide +kernel
theorem dksX4_over_1 : cX4_over.data.toList.drop 22 = dktX4_over_1 := dk_seg dksX4_over_0 22 rfl rfl
theorem dX4_over_0 : decode cX4_over 0 = .ok (.aload_n 0, 1) := dk_42 (dk_at dksX4_over_0 0 rfl rfl)
theorem dX4_over_1 : decode cX4_over 1 = .ok (.iload_n 1, 1) := dk_27 (dk_at dksX4_over_0 1 rfl rfl)
theorem dX4_over_2 : decode cX4_over 2 = .ok (.invokevirtual 426, 3) := dk_182 1 170 (dk_at dksX4_over_0 2 rfl rfl)
theorem dX4_over_5 : decode cX4_over 5 = .ok (.ifCond .eq 20, 3) := dk_153 0 20 (dk_at dksX4_over_0 5 rfl rfl)
theorem dX4_over_8 : decode cX4_over 8 = .ok (.aload_n 0, 1) := dk_42 (dk_at dksX4_over_0 8 rfl rfl)
theorem dX4_over_9 : decode cX4_over 9 = .ok (.iload_n 2, 1) := dk_28 (dk_at dksX4_over_0 9 rfl rfl)
theorem dX4_over_10 : decode cX4_over 10 = .ok (.invokevirtual 436, 3) := dk_182 1 180 (dk_at dksX4_over_0 10 rfl rfl)
theorem dX4_over_13 : decode cX4_over 13 = .ok (.ifCond .eq 12, 3) := dk_153 0 12 (dk_at dksX4_over_0 13 rfl rfl)
theorem dX4_over_16 : decode cX4_over 16 = .ok (.aload_n 0, 1) := dk_42 (dk_at dksX4_over_0 16 rfl rfl)
theorem dX4_over_17 : decode cX4_over 17 = .ok (.iload_n 1, 1) := dk_27 (dk_at dksX4_over_0 17 rfl rfl)
theorem dX4_over_18 : decode cX4_over 18 = .ok (.iload_n 2, 1) := dk_28 (dk_at dksX4_over_0 18 rfl rfl)
theorem dX4_over_19 : decode cX4_over 19 = .ok (.invokevirtual 388, 3) := dk_182 1 132 (dk_at dksX4_over_0 19 rfl rfl)
theorem dX4_over_22 : decode cX4_over 22 = .ok (.goto 4, 3) := dk_167 0 4 (dk_at dksX4_over_1 0 rfl rfl)
theorem dX4_over_25 : decode cX4_over 25 = .ok (.iconst (-1), 1) := dk_2 (dk_at dksX4_over_1 3 rfl rfl)
theorem dX4_over_26 : decode cX4_over 26 = .ok (.ireturn, 1) := dk_172 (dk_at dksX4_over_1 4 rfl rfl)
abbrev cX4_pay : ByteArray := prog_22_method_62_code
def yX4_pay : MethodName := ⟨RX4, "pay", "(II)I"⟩
def dkwX4_pay_1 : List UInt8 := [167, 0, 4, 2, 172]
abbrev dktX4_pay_1 : List UInt8 := dkwX4_pay_1 ++ []
def dkwX4_pay_0 : List UInt8 := [42, 27, 182, 1, 170, 153, 0, 20, 42, 28, 182, 1, 180, 153, 0, 12, 42, 27, 28, 182, 1, 177]
abbrev dktX4_pay_0 : List UInt8 := dkwX4_pay_0 ++ dktX4_pay_1
theorem dksX4_pay_0 : cX4_pay.data.toList.drop 0 = dktX4_pay_0 := by decide +kernel
theorem dksX4_pay_1 : cX4_pay.data.toList.drop 22 = dktX4_pay_1 := dk_seg dksX4_pay_0 22 rfl rfl
theorem dX4_pay_0 : decode cX4_pay 0 = .ok (.aload_n 0, 1) := dk_42 (dk_at dksX4_pay_0 0 rfl rfl)
theorem dX4_pay_1 : decode cX4_pay 1 = .ok (.iload_n 1, 1) := dk_27 (dk_at dksX4_pay_0 1 rfl rfl)
theorem dX4_pay_2 : decode cX4_pay 2 = .ok (.invokevirtual 426, 3) := dk_182 1 170 (dk_at dksX4_pay_0 2 rfl rfl)
theorem dX4_pay_5 : decode cX4_pay 5 = .ok (.ifCond .eq 20, 3) := dk_153 0 20 (dk_at dksX4_pay_0 5 rfl rfl)
theorem dX4_pay_8 : decode cX4_pay 8 = .ok (.aload_n 0, 1) := dk_42 (dk_at dksX4_pay_0 8 rfl rfl)
theorem dX4_pay_9 : decode cX4_pay 9 = .ok (.iload_n 2, 1) := dk_28 (dk_at dksX4_pay_0 9 rfl rfl)
theorem dX4_pay_10 : decode cX4_pay 10 = .ok (.invokevirtual 436, 3) := dk_182 1 180 (dk_at dksX4_pay_0 10 rfl rfl)
theorem dX4_pay_13 : decode cX4_pay 13 = .ok (.ifCond .eq 12, 3) := dk_153 0 12 (dk_at dksX4_pay_0 13 rfl rfl)
theorem dX4_pay_16 : decode cX4_pay 16 = .ok (.aload_n 0, 1) := dk_42 (dk_at dksX4_pay_0 16 rfl rfl)
theorem dX4_pay_17 : decode cX4_pay 17 = .ok (.iload_n 1, 1) := dk_27 (dk_at dksX4_pay_0 17 rfl rfl)
theorem dX4_pay_18 : decode cX4_pay 18 = .ok (.iload_n 2, 1) := dk_28 (dk_at dksX4_pay_0 18 rfl rfl)
theorem dX4_pay_19 : decode cX4_pay 19 = .ok (.invokevirtual 433, 3) := dk_182 1 177 (dk_at dksX4_pay_0 19 rfl rfl)
theorem dX4_pay_22 : decode cX4_pay 22 = .ok (.goto 4, 3) := dk_167 0 4 (dk_at dksX4_pay_1 0 rfl rfl)
theorem dX4_pay_25 : decode cX4_pay 25 = .ok (.iconst (-1), 1) := dk_2 (dk_at dksX4_pay_1 3 rfl rfl)
theorem dX4_pay_26 : decode cX4_pay 26 = .ok (.ireturn, 1) := dk_172 (dk_at dksX4_pay_1 4 rfl rfl)
abbrev cX4_all : ByteArray := prog_22_method_63_code
def yX4_all : MethodName := ⟨RX4, "all", "(II)I"⟩
def dkwX4_all_2 : List UInt8 := [42, 21, 4, 27, 182, 1, 132, 96, 62, 132, 4, 1, 167, 255, 220, 29, 172]
abbrev dktX4_all_2 : List UInt8 := dkwX4_all_2 ++ []
def dkwX4_all_1 : List UInt8 := [21, 4, 42, 182, 1, 142, 162, 0, 33, 29, 28, 154, 0, 13, 42, 21, 4, 27, 182, 1, 183, 167, 0, 10]
abbrev dktX4_all_1 : List UInt8 := dkwX4_all_1 ++ dktX4_all_2
def dkwX4_all_0 : List UInt8 := [42, 27, 182, 1, 180, 153, 0, 12, 28, 3, 4, 184, 1, 145, 154, 0, 5, 2, 172, 3, 62, 3, 54, 4]
abbrev dktX4_all_0 : List UInt8 := dkwX4_all_0 ++ dktX4_all_1
theorem dksX4_all_0 : cX4_all.data.toList.drop 0 = dktX4_all_0 := by decide +kernel
theorem dksX4_all_1 : cX4_all.data.toList.drop 24 = dktX4_all_1 := dk_seg dksX4_all_0 24 rfl rfl
theorem dksX4_all_2 : cX4_all.data.toList.drop 48 = dktX4_all_2 := dk_seg dksX4_all_1 24 rfl rfl
theorem dX4_all_0 : decode cX4_all 0 = .ok (.aload_n 0, 1) := dk_42 (dk_at dksX4_all_0 0 rfl rfl)
theorem dX4_all_1 : decode cX4_all 1 = .ok (.iload_n 1, 1) := dk_27 (dk_at dksX4_all_0 1 rfl rfl)
theorem dX4_all_2 : decode cX4_all 2 = .ok (.invokevirtual 436, 3) := dk_182 1 180 (dk_at dksX4_all_0 2 rfl rfl)
theorem dX4_all_5 : decode cX4_all 5 = .ok (.ifCond .eq 12, 3) := dk_153 0 12 (dk_at dksX4_all_0 5 rfl rfl)
theorem dX4_all_8 : decode cX4_all 8 = .ok (.iload_n 2, 1) := dk_28 (dk_at dksX4_all_0 8 rfl rfl)
theorem dX4_all_9 : decode cX4_all 9 = .ok (.iconst 0, 1) := dk_3 (dk_at dksX4_all_0 9 rfl rfl)
theorem dX4_all_10 : decode cX4_all 10 = .ok (.iconst 1, 1) := dk_4 (dk_at dksX4_all_0 10 rfl rfl)
theorem dX4_all_11 : decode cX4_all 11 = .ok (.invokestatic 401, 3) := dk_184 1 145 (dk_at dksX4_all_0 11 rfl rfl)
theorem dX4_all_14 : decode cX4_all 14 = .ok (.ifCond .ne 5, 3) := dk_154 0 5 (dk_at dksX4_all_0 14 rfl rfl)
theorem dX4_all_17 : decode cX4_all 17 = .ok (.iconst (-1), 1) := dk_2 (dk_at dksX4_all_0 17 rfl rfl)
theorem dX4_all_18 : decode cX4_all 18 = .ok (.ireturn, 1) := dk_172 (dk_at dksX4_all_0 18 rfl rfl)
theorem dX4_all_19 : decode cX4_all 19 = .ok (.iconst 0, 1) := dk_3 (dk_at dksX4_all_0 19 rfl rfl)
theorem dX4_all_20 : decode cX4_all 20 = .ok (.istore_n 3, 1) := dk_62 (dk_at dksX4_all_0 20 rfl rfl)
theorem dX4_all_21 : decode cX4_all 21 = .ok (.iconst 0, 1) := dk_3 (dk_at dksX4_all_0 21 rfl rfl)
theorem dX4_all_22 : decode cX4_all 22 = .ok (.istore 4, 2) := dk_54 4 (dk_at dksX4_all_0 22 rfl rfl)
theorem dX4_all_24 : decode cX4_all 24 = .ok (.iload 4, 2) := dk_21 4 (dk_at dksX4_all_1 0 rfl rfl)
theorem dX4_all_26 : decode cX4_all 26 = .ok (.aload_n 0, 1) := dk_42 (dk_at dksX4_all_1 2 rfl rfl)
theorem dX4_all_27 : decode cX4_all 27 = .ok (.invokevirtual 398, 3) := dk_182 1 142 (dk_at dksX4_all_1 3 rfl rfl)
theorem dX4_all_30 : decode cX4_all 30 = .ok (.if_icmp .ge 33, 3) := dk_162 0 33 (dk_at dksX4_all_1 6 rfl rfl)
theorem dX4_all_33 : decode cX4_all 33 = .ok (.iload_n 3, 1) := dk_29 (dk_at dksX4_all_1 9 rfl rfl)
theorem dX4_all_34 : decode cX4_all 34 = .ok (.iload_n 2, 1) := dk_28 (dk_at dksX4_all_1 10 rfl rfl)
theorem dX4_all_35 : decode cX4_all 35 = .ok (.ifCond .ne 13, 3) := dk_154 0 13 (dk_at dksX4_all_1 11 rfl rfl)
theorem dX4_all_38 : decode cX4_all 38 = .ok (.aload_n 0, 1) := dk_42 (dk_at dksX4_all_1 14 rfl rfl)
theorem dX4_all_39 : decode cX4_all 39 = .ok (.iload 4, 2) := dk_21 4 (dk_at dksX4_all_1 15 rfl rfl)
theorem dX4_all_41 : decode cX4_all 41 = .ok (.iload_n 1, 1) := dk_27 (dk_at dksX4_all_1 17 rfl rfl)
theorem dX4_all_42 : decode cX4_all 42 = .ok (.invokevirtual 439, 3) := dk_182 1 183 (dk_at dksX4_all_1 18 rfl rfl)
theorem dX4_all_45 : decode cX4_all 45 = .ok (.goto 10, 3) := dk_167 0 10 (dk_at dksX4_all_1 21 rfl rfl)
theorem dX4_all_48 : decode cX4_all 48 = .ok (.aload_n 0, 1) := dk_42 (dk_at dksX4_all_2 0 rfl rfl)
theorem dX4_all_49 : decode cX4_all 49 = .ok (.iload 4, 2) := dk_21 4 (dk_at dksX4_all_2 1 rfl rfl)
theorem dX4_all_51 : decode cX4_all 51 = .ok (.iload_n 1, 1) := dk_27 (dk_at dksX4_all_2 3 rfl rfl)
theorem dX4_all_52 : decode cX4_all 52 = .ok (.invokevirtual 388, 3) := dk_182 1 132 (dk_at dksX4_all_2 4 rfl rfl)
theorem dX4_all_55 : decode cX4_all 55 = .ok (.iadd, 1) := dk_96 (dk_at dksX4_all_2 7 rfl rfl)
theorem dX4_all_56 : decode cX4_all 56 = .ok (.istore_n 3, 1) := dk_62 (dk_at dksX4_all_2 8 rfl rfl)
theorem dX4_all_57 : decode cX4_all 57 = .ok (.iinc 4 1, 3) := dk_132 4 1 (dk_at dksX4_all_2 9 rfl rfl)
theorem dX4_all_60 : decode cX4_all 60 = .ok (.goto (-36), 3) := dk_167 255 220 (dk_at dksX4_all_2 12 rfl rfl)
theorem dX4_all_63 : decode cX4_all 63 = .ok (.iload_n 3, 1) := dk_29 (dk_at dksX4_all_2 15 rfl rfl)
theorem dX4_all_64 : decode cX4_all 64 = .ok (.ireturn, 1) := dk_172 (dk_at dksX4_all_2 16 rfl rfl)
abbrev cX4_left : ByteArray := prog_22_method_64_code
def yX4_left : MethodName := ⟨RX4, "left", "(I)I"⟩
def dkwX4_left_0 : List UInt8 := [42, 27, 182, 1, 170, 153, 0, 11, 42, 27, 182, 1, 186, 167, 0, 4, 2, 172]
abbrev dktX4_left_0 : List UInt8 := dkwX4_left_0 ++ []
theorem dksX4_left_0 : cX4_left.data.toList.drop 0 = dktX4_left_0 := by decide +kernel
theorem dX4_left_0 : decode cX4_left 0 = .ok (.aload_n 0, 1) := dk_42 (dk_at dksX4_left_0 0 rfl rfl)
theorem dX4_left_1 : decode cX4_left 1 = .ok (.iload_n 1, 1) := dk_27 (dk_at dksX4_left_0 1 rfl rfl)
theorem dX4_left_2 : decode cX4_left 2 = .ok (.invokevirtual 426, 3) := dk_182 1 170 (dk_at dksX4_left_0 2 rfl rfl)
theorem dX4_left_5 : decode cX4_left 5 = .ok (.ifCond .eq 11, 3) := dk_153 0 11 (dk_at dksX4_left_0 5 rfl rfl)
theorem dX4_left_8 : decode cX4_left 8 = .ok (.aload_n 0, 1) := dk_42 (dk_at dksX4_left_0 8 rfl rfl)
theorem dX4_left_9 : decode cX4_left 9 = .ok (.iload_n 1, 1) := dk_27 (dk_at dksX4_left_0 9 rfl rfl)
theorem dX4_left_10 : decode cX4_left 10 = .ok (.invokevirtual 442, 3) := dk_182 1 186 (dk_at dksX4_left_0 10 rfl rfl)
theorem dX4_left_13 : decode cX4_left 13 = .ok (.goto 4, 3) := dk_167 0 4 (dk_at dksX4_left_0 13 rfl rfl)
theorem dX4_left_16 : decode cX4_left 16 = .ok (.iconst (-1), 1) := dk_2 (dk_at dksX4_left_0 16 rfl rfl)
theorem dX4_left_17 : decode cX4_left 17 = .ok (.ireturn, 1) := dk_172 (dk_at dksX4_left_0 17 rfl rfl)
abbrev cX4_leftOf : ByteArray := prog_22_method_52_code
def yX4_leftOf : MethodName := ⟨RX4, "leftOf", "(I)I"⟩
def dkwX4_leftOf_0 : List UInt8 := [42, 180, 0, 36, 42, 180, 1, 45, 46, 42, 180, 0, 113, 16, 35, 27, 96, 46, 100, 172]
abbrev dktX4_leftOf_0 : List UInt8 := dkwX4_leftOf_0 ++ []
theorem dksX4_leftOf_0 : cX4_leftOf.data.toList.drop 0 = dktX4_leftOf_0 := by decide +kernel
theorem dX4_leftOf_0 : decode cX4_leftOf 0 = .ok (.aload_n 0, 1) := dk_42 (dk_at dksX4_leftOf_0 0 rfl rfl)
theorem dX4_leftOf_1 : decode cX4_leftOf 1 = .ok (.getfield 36, 3) := dk_180 0 36 (dk_at dksX4_leftOf_0 1 rfl rfl)
theorem dX4_leftOf_4 : decode cX4_leftOf 4 = .ok (.aload_n 0, 1) := dk_42 (dk_at dksX4_leftOf_0 4 rfl rfl)
theorem dX4_leftOf_5 : decode cX4_leftOf 5 = .ok (.getfield 301, 3) := dk_180 1 45 (dk_at dksX4_leftOf_0 5 rfl rfl)
theorem dX4_leftOf_8 : decode cX4_leftOf 8 = .ok (.iaload, 1) := dk_46 (dk_at dksX4_leftOf_0 8 rfl rfl)
theorem dX4_leftOf_9 : decode cX4_leftOf 9 = .ok (.aload_n 0, 1) := dk_42 (dk_at dksX4_leftOf_0 9 rfl rfl)
theorem dX4_leftOf_10 : decode cX4_leftOf 10 = .ok (.getfield 113, 3) := dk_180 0 113 (dk_at dksX4_leftOf_0 10 rfl rfl)
theorem dX4_leftOf_13 : decode cX4_leftOf 13 = .ok (.bipush 35, 2) := dk_16 35 (dk_at dksX4_leftOf_0 13 rfl rfl)
theorem dX4_leftOf_15 : decode cX4_leftOf 15 = .ok (.iload_n 1, 1) := dk_27 (dk_at dksX4_leftOf_0 15 rfl rfl)
theorem dX4_leftOf_16 : decode cX4_leftOf 16 = .ok (.iadd, 1) := dk_96 (dk_at dksX4_leftOf_0 16 rfl rfl)
theorem dX4_leftOf_17 : decode cX4_leftOf 17 = .ok (.iaload, 1) := dk_46 (dk_at dksX4_leftOf_0 17 rfl rfl)
theorem dX4_leftOf_18 : decode cX4_leftOf 18 = .ok (.isub, 1) := dk_100 (dk_at dksX4_leftOf_0 18 rfl rfl)
theorem dX4_leftOf_19 : decode cX4_leftOf 19 = .ok (.ireturn, 1) := dk_172 (dk_at dksX4_leftOf_0 19 rfl rfl)
abbrev cX4_spend : ByteArray := prog_22_method_67_code
def yX4_spend : MethodName := ⟨RX4, "spend", "(III)I"⟩
def dkwX4_spend_3 : List UInt8 := [16, 35, 27, 96, 92, 46, 29, 96, 79, 42, 27, 28, 29, 4, 182, 1, 192, 42, 27, 28, 182, 1, 132, 172]
abbrev dktX4_spend_3 : List UInt8 := dkwX4_spend_3 ++ []
def dkwX4_spend_2 : List UInt8 := [42, 182, 1, 189, 42, 180, 0, 113, 3, 6, 27, 104, 96, 28, 96, 92, 46, 29, 100, 79, 42, 180, 0, 113]
abbrev dktX4_spend_2 : List UInt8 := dkwX4_spend_2 ++ dktX4_spend_3
def dkwX4_spend_1 : List UInt8 := [153, 0, 22, 29, 42, 27, 28, 182, 1, 183, 163, 0, 12, 29, 42, 27, 182, 1, 186, 164, 0, 5, 2, 172]
abbrev dktX4_spend_1 : List UInt8 := dkwX4_spend_1 ++ dktX4_spend_2
def dkwX4_spend_0 : List UInt8 := [42, 27, 182, 1, 170, 153, 0, 40, 42, 28, 182, 1, 180, 153, 0, 32, 29, 4, 16, 8, 184, 1, 145]
abbrev dktX4_spend_0 : List UInt8 := dkwX4_spend_0 ++ dktX4_spend_1
theorem dksX4_spend_0 : cX4_spend.data.toList.drop 0 = dktX4_spend_0 := by decide +kernel
theorem dksX4_spend_1 : cX4_spend.data.toList.drop 23 = dktX4_spend_1 := dk_seg dksX4_spend_0 23 rfl rfl
theorem dksX4_spend_2 : cX4_spend.data.toList.drop 47 = dktX4_spend_2 := dk_seg dksX4_spend_1 24 rfl rfl
theorem dksX4_spend_3 : cX4_spend.data.toList.drop 71 = dktX4_spend_3 := dk_seg dksX4_spend_2 24 rfl rfl
theorem dX4_spend_0 : decode cX4_spend 0 = .ok (.aload_n 0, 1) := dk_42 (dk_at dksX4_spend_0 0 rfl rfl)
theorem dX4_spend_1 : decode cX4_spend 1 = .ok (.iload_n 1, 1) := dk_27 (dk_at dksX4_spend_0 1 rfl rfl)
theorem dX4_spend_2 : decode cX4_spend 2 = .ok (.invokevirtual 426, 3) := dk_182 1 170 (dk_at dksX4_spend_0 2 rfl rfl)
theorem dX4_spend_5 : decode cX4_spend 5 = .ok (.ifCond .eq 40, 3) := dk_153 0 40 (dk_at dksX4_spend_0 5 rfl rfl)
theorem dX4_spend_8 : decode cX4_spend 8 = .ok (.aload_n 0, 1) := dk_42 (dk_at dksX4_spend_0 8 rfl rfl)
theorem dX4_spend_9 : decode cX4_spend 9 = .ok (.iload_n 2, 1) := dk_28 (dk_at dksX4_spend_0 9 rfl rfl)
theorem dX4_spend_10 : decode cX4_spend 10 = .ok (.invokevirtual 436, 3) := dk_182 1 180 (dk_at dksX4_spend_0 10 rfl rfl)
theorem dX4_spend_13 : decode cX4_spend 13 = .ok (.ifCond .eq 32, 3) := dk_153 0 32 (dk_at dksX4_spend_0 13 rfl rfl)
theorem dX4_spend_16 : decode cX4_spend 16 = .ok (.iload_n 3, 1) := dk_29 (dk_at dksX4_spend_0 16 rfl rfl)
theorem dX4_spend_17 : decode cX4_spend 17 = .ok (.iconst 1, 1) := dk_4 (dk_at dksX4_spend_0 17 rfl rfl)
theorem dX4_spend_18 : decode cX4_spend 18 = .ok (.bipush 8, 2) := dk_16 8 (dk_at dksX4_spend_0 18 rfl rfl)
theorem dX4_spend_20 : decode cX4_spend 20 = .ok (.invokestatic 401, 3) := dk_184 1 145 (dk_at dksX4_spend_0 20 rfl rfl)
theorem dX4_spend_23 : decode cX4_spend 23 = .ok (.ifCond .eq 22, 3) := dk_153 0 22 (dk_at dksX4_spend_1 0 rfl rfl)
theorem dX4_spend_26 : decode cX4_spend 26 = .ok (.iload_n 3, 1) := dk_29 (dk_at dksX4_spend_1 3 rfl rfl)
theorem dX4_spend_27 : decode cX4_spend 27 = .ok (.aload_n 0, 1) := dk_42 (dk_at dksX4_spend_1 4 rfl rfl)
theorem dX4_spend_28 : decode cX4_spend 28 = .ok (.iload_n 1, 1) := dk_27 (dk_at dksX4_spend_1 5 rfl rfl)
theorem dX4_spend_29 : decode cX4_spend 29 = .ok (.iload_n 2, 1) := dk_28 (dk_at dksX4_spend_1 6 rfl rfl)
theorem dX4_spend_30 : decode cX4_spend 30 = .ok (.invokevirtual 439, 3) := dk_182 1 183 (dk_at dksX4_spend_1 7 rfl rfl)
theorem dX4_spend_33 : decode cX4_spend 33 = .ok (.if_icmp .gt 12, 3) := dk_163 0 12 (dk_at dksX4_spend_1 10 rfl rfl)
theorem dX4_spend_36 : decode cX4_spend 36 = .ok (.iload_n 3, 1) := dk_29 (dk_at dksX4_spend_1 13 rfl rfl)
theorem dX4_spend_37 : decode cX4_spend 37 = .ok (.aload_n 0, 1) := dk_42 (dk_at dksX4_spend_1 14 rfl rfl)
theorem dX4_spend_38 : decode cX4_spend 38 = .ok (.iload_n 1, 1) := dk_27 (dk_at dksX4_spend_1 15 rfl rfl)
theorem dX4_spend_39 : decode cX4_spend 39 = .ok (.invokevirtual 442, 3) := dk_182 1 186 (dk_at dksX4_spend_1 16 rfl rfl)
theorem dX4_spend_42 : decode cX4_spend 42 = .ok (.if_icmp .le 5, 3) := dk_164 0 5 (dk_at dksX4_spend_1 19 rfl rfl)
theorem dX4_spend_45 : decode cX4_spend 45 = .ok (.iconst (-1), 1) := dk_2 (dk_at dksX4_spend_1 22 rfl rfl)
theorem dX4_spend_46 : decode cX4_spend 46 = .ok (.ireturn, 1) := dk_172 (dk_at dksX4_spend_1 23 rfl rfl)
theorem dX4_spend_47 : decode cX4_spend 47 = .ok (.aload_n 0, 1) := dk_42 (dk_at dksX4_spend_2 0 rfl rfl)
theorem dX4_spend_48 : decode cX4_spend 48 = .ok (.invokevirtual 445, 3) := dk_182 1 189 (dk_at dksX4_spend_2 1 rfl rfl)
theorem dX4_spend_51 : decode cX4_spend 51 = .ok (.aload_n 0, 1) := dk_42 (dk_at dksX4_spend_2 4 rfl rfl)
theorem dX4_spend_52 : decode cX4_spend 52 = .ok (.getfield 113, 3) := dk_180 0 113 (dk_at dksX4_spend_2 5 rfl rfl)
theorem dX4_spend_55 : decode cX4_spend 55 = .ok (.iconst 0, 1) := dk_3 (dk_at dksX4_spend_2 8 rfl rfl)
theorem dX4_spend_56 : decode cX4_spend 56 = .ok (.iconst 3, 1) := dk_6 (dk_at dksX4_spend_2 9 rfl rfl)
theorem dX4_spend_57 : decode cX4_spend 57 = .ok (.iload_n 1, 1) := dk_27 (dk_at dksX4_spend_2 10 rfl rfl)
theorem dX4_spend_58 : decode cX4_spend 58 = .ok (.imul, 1) := dk_104 (dk_at dksX4_spend_2 11 rfl rfl)
theorem dX4_spend_59 : decode cX4_spend 59 = .ok (.iadd, 1) := dk_96 (dk_at dksX4_spend_2 12 rfl rfl)
theorem dX4_spend_60 : decode cX4_spend 60 = .ok (.iload_n 2, 1) := dk_28 (dk_at dksX4_spend_2 13 rfl rfl)
theorem dX4_spend_61 : decode cX4_spend 61 = .ok (.iadd, 1) := dk_96 (dk_at dksX4_spend_2 14 rfl rfl)
theorem dX4_spend_62 : decode cX4_spend 62 = .ok (.dup2, 1) := dk_92 (dk_at dksX4_spend_2 15 rfl rfl)
theorem dX4_spend_63 : decode cX4_spend 63 = .ok (.iaload, 1) := dk_46 (dk_at dksX4_spend_2 16 rfl rfl)
theorem dX4_spend_64 : decode cX4_spend 64 = .ok (.iload_n 3, 1) := dk_29 (dk_at dksX4_spend_2 17 rfl rfl)
theorem dX4_spend_65 : decode cX4_spend 65 = .ok (.isub, 1) := dk_100 (dk_at dksX4_spend_2 18 rfl rfl)
theorem dX4_spend_66 : decode cX4_spend 66 = .ok (.iastore, 1) := dk_79 (dk_at dksX4_spend_2 19 rfl rfl)
theorem dX4_spend_67 : decode cX4_spend 67 = .ok (.aload_n 0, 1) := dk_42 (dk_at dksX4_spend_2 20 rfl rfl)
theorem dX4_spend_68 : decode cX4_spend 68 = .ok (.getfield 113, 3) := dk_180 0 113 (dk_at dksX4_spend_2 21 rfl rfl)
theorem dX4_spend_71 : decode cX4_spend 71 = .ok (.bipush 35, 2) := dk_16 35 (dk_at dksX4_spend_3 0 rfl rfl)
theorem dX4_spend_73 : decode cX4_spend 73 = .ok (.iload_n 1, 1) := dk_27 (dk_at dksX4_spend_3 2 rfl rfl)
theorem dX4_spend_74 : decode cX4_spend 74 = .ok (.iadd, 1) := dk_96 (dk_at dksX4_spend_3 3 rfl rfl)
theorem dX4_spend_75 : decode cX4_spend 75 = .ok (.dup2, 1) := dk_92 (dk_at dksX4_spend_3 4 rfl rfl)
theorem dX4_spend_76 : decode cX4_spend 76 = .ok (.iaload, 1) := dk_46 (dk_at dksX4_spend_3 5 rfl rfl)
theorem dX4_spend_77 : decode cX4_spend 77 = .ok (.iload_n 3, 1) := dk_29 (dk_at dksX4_spend_3 6 rfl rfl)
theorem dX4_spend_78 : decode cX4_spend 78 = .ok (.iadd, 1) := dk_96 (dk_at dksX4_spend_3 7 rfl rfl)
theorem dX4_spend_79 : decode cX4_spend 79 = .ok (.iastore, 1) := dk_79 (dk_at dksX4_spend_3 8 rfl rfl)
theorem dX4_spend_80 : decode cX4_spend 80 = .ok (.aload_n 0, 1) := dk_42 (dk_at dksX4_spend_3 9 rfl rfl)
theorem dX4_spend_81 : decode cX4_spend 81 = .ok (.iload_n 1, 1) := dk_27 (dk_at dksX4_spend_3 10 rfl rfl)
theorem dX4_spend_82 : decode cX4_spend 82 = .ok (.iload_n 2, 1) := dk_28 (dk_at dksX4_spend_3 11 rfl rfl)
theorem dX4_spend_83 : decode cX4_spend 83 = .ok (.iload_n 3, 1) := dk_29 (dk_at dksX4_spend_3 12 rfl rfl)
theorem dX4_spend_84 : decode cX4_spend 84 = .ok (.iconst 1, 1) := dk_4 (dk_at dksX4_spend_3 13 rfl rfl)
theorem dX4_spend_85 : decode cX4_spend 85 = .ok (.invokevirtual 448, 3) := dk_182 1 192 (dk_at dksX4_spend_3 14 rfl rfl)
theorem dX4_spend_88 : decode cX4_spend 88 = .ok (.aload_n 0, 1) := dk_42 (dk_at dksX4_spend_3 17 rfl rfl)
theorem dX4_spend_89 : decode cX4_spend 89 = .ok (.iload_n 1, 1) := dk_27 (dk_at dksX4_spend_3 18 rfl rfl)
theorem dX4_spend_90 : decode cX4_spend 90 = .ok (.iload_n 2, 1) := dk_28 (dk_at dksX4_spend_3 19 rfl rfl)
theorem dX4_spend_91 : decode cX4_spend 91 = .ok (.invokevirtual 388, 3) := dk_182 1 132 (dk_at dksX4_spend_3 20 rfl rfl)
theorem dX4_spend_94 : decode cX4_spend 94 = .ok (.ireturn, 1) := dk_172 (dk_at dksX4_spend_3 23 rfl rfl)
abbrev cX4_keepAct : ByteArray := prog_22_method_65_code
def yX4_keepAct : MethodName := ⟨RX4, "keepAct", "()V"⟩
def dkwX4_keepAct_4 : List UInt8 := [3, 181, 1, 152, 177]
abbrev dktX4_keepAct_4 : List UInt8 := dkwX4_keepAct_4 ++ []
def dkwX4_keepAct_3 : List UInt8 := [42, 180, 0, 113, 27, 46, 79, 132, 1, 1, 167, 255, 227, 42, 89, 180, 1, 149, 4, 96, 181, 1, 149, 42]
abbrev dktX4_keepAct_3 : List UInt8 := dkwX4_keepAct_3 ++ dktX4_keepAct_4
def dkwX4_keepAct_2 : List UInt8 := [181, 1, 149, 3, 60, 27, 16, 42, 162, 0, 29, 42, 180, 0, 116, 16, 42, 42, 180, 1, 149, 104, 27, 96]
abbrev dktX4_keepAct_2 : List UInt8 := dkwX4_keepAct_2 ++ dktX4_keepAct_3
def dkwX4_keepAct_1 : List UInt8 := [180, 0, 116, 27, 16, 42, 96, 46, 79, 132, 1, 1, 167, 255, 231, 42, 89, 180, 1, 149, 4, 100]
abbrev dktX4_keepAct_1 : List UInt8 := dkwX4_keepAct_1 ++ dktX4_keepAct_2
def dkwX4_keepAct_0 : List UInt8 := [42, 180, 1, 149, 16, 40, 160, 0, 43, 3, 60, 27, 17, 6, 144, 162, 0, 24, 42, 180, 0, 116, 27, 42]
abbrev dktX4_keepAct_0 : List UInt8 := dkwX4_keepAct_0 ++ dktX4_keepAct_1
theorem dksX4_keepAct_0 : cX4_keepAct.data.toList.drop 0 = dktX4_keepAct_0 := by decide +kernel
theorem dksX4_keepAct_1 : cX4_keepAct.data.toList.drop 24 = dktX4_keepAct_1 := dk_seg dksX4_keepAct_0 24 rfl rfl
theorem dksX4_keepAct_2 : cX4_keepAct.data.toList.drop 46 = dktX4_keepAct_2 := dk_seg dksX4_keepAct_1 22 rfl rfl
theorem dksX4_keepAct_3 : cX4_keepAct.data.toList.drop 70 = dktX4_keepAct_3 := dk_seg dksX4_keepAct_2 24 rfl rfl
theorem dksX4_keepAct_4 : cX4_keepAct.data.toList.drop 94 = dktX4_keepAct_4 := dk_seg dksX4_keepAct_3 24 rfl rfl
theorem dX4_keepAct_0 : decode cX4_keepAct 0 = .ok (.aload_n 0, 1) := dk_42 (dk_at dksX4_keepAct_0 0 rfl rfl)
theorem dX4_keepAct_1 : decode cX4_keepAct 1 = .ok (.getfield 405, 3) := dk_180 1 149 (dk_at dksX4_keepAct_0 1 rfl rfl)
theorem dX4_keepAct_4 : decode cX4_keepAct 4 = .ok (.bipush 40, 2) := dk_16 40 (dk_at dksX4_keepAct_0 4 rfl rfl)
theorem dX4_keepAct_6 : decode cX4_keepAct 6 = .ok (.if_icmp .ne 43, 3) := dk_160 0 43 (dk_at dksX4_keepAct_0 6 rfl rfl)
theorem dX4_keepAct_9 : decode cX4_keepAct 9 = .ok (.iconst 0, 1) := dk_3 (dk_at dksX4_keepAct_0 9 rfl rfl)
theorem dX4_keepAct_10 : decode cX4_keepAct 10 = .ok (.istore_n 1, 1) := dk_60 (dk_at dksX4_keepAct_0 10 rfl rfl)
theorem dX4_keepAct_11 : decode cX4_keepAct 11 = .ok (.iload_n 1, 1) := dk_27 (dk_at dksX4_keepAct_0 11 rfl rfl)
theorem dX4_keepAct_12 : decode cX4_keepAct 12 = .ok (.sipush 1680, 3) := dk_17 6 144 (dk_at dksX4_keepAct_0 12 rfl rfl)
theorem dX4_keepAct_15 : decode cX4_keepAct 15 = .ok (.if_icmp .ge 24, 3) := dk_162 0 24 (dk_at dksX4_keepAct_0 15 rfl rfl)
theorem dX4_keepAct_18 : decode cX4_keepAct 18 = .ok (.aload_n 0, 1) := dk_42 (dk_at dksX4_keepAct_0 18 rfl rfl)
theorem dX4_keepAct_19 : decode cX4_keepAct 19 = .ok (.getfield 116, 3) := dk_180 0 116 (dk_at dksX4_keepAct_0 19 rfl rfl)
theorem dX4_keepAct_22 : decode cX4_keepAct 22 = .ok (.iload_n 1, 1) := dk_27 (dk_at dksX4_keepAct_0 22 rfl rfl)
theorem dX4_keepAct_23 : decode cX4_keepAct 23 = .ok (.aload_n 0, 1) := dk_42 (dk_at dksX4_keepAct_0 23 rfl rfl)
theorem dX4_keepAct_24 : decode cX4_keepAct 24 = .ok (.getfield 116, 3) := dk_180 0 116 (dk_at dksX4_keepAct_1 0 rfl rfl)
theorem dX4_keepAct_27 : decode cX4_keepAct 27 = .ok (.iload_n 1, 1) := dk_27 (dk_at dksX4_keepAct_1 3 rfl rfl)
theorem dX4_keepAct_28 : decode cX4_keepAct 28 = .ok (.bipush 42, 2) := dk_16 42 (dk_at dksX4_keepAct_1 4 rfl rfl)
theorem dX4_keepAct_30 : decode cX4_keepAct 30 = .ok (.iadd, 1) := dk_96 (dk_at dksX4_keepAct_1 6 rfl rfl)
theorem dX4_keepAct_31 : decode cX4_keepAct 31 = .ok (.iaload, 1) := dk_46 (dk_at dksX4_keepAct_1 7 rfl rfl)
theorem dX4_keepAct_32 : decode cX4_keepAct 32 = .ok (.iastore, 1) := dk_79 (dk_at dksX4_keepAct_1 8 rfl rfl)
theorem dX4_keepAct_33 : decode cX4_keepAct 33 = .ok (.iinc 1 1, 3) := dk_132 1 1 (dk_at dksX4_keepAct_1 9 rfl rfl)
theorem dX4_keepAct_36 : decode cX4_keepAct 36 = .ok (.goto (-25), 3) := dk_167 255 231 (dk_at dksX4_keepAct_1 12 rfl rfl)
theorem dX4_keepAct_39 : decode cX4_keepAct 39 = .ok (.aload_n 0, 1) := dk_42 (dk_at dksX4_keepAct_1 15 rfl rfl)
theorem dX4_keepAct_40 : decode cX4_keepAct 40 = .ok (.dup, 1) := dk_89 (dk_at dksX4_keepAct_1 16 rfl rfl)
theorem dX4_keepAct_41 : decode cX4_keepAct 41 = .ok (.getfield 405, 3) := dk_180 1 149 (dk_at dksX4_keepAct_1 17 rfl rfl)
theorem dX4_keepAct_44 : decode cX4_keepAct 44 = .ok (.iconst 1, 1) := dk_4 (dk_at dksX4_keepAct_1 20 rfl rfl)
theorem dX4_keepAct_45 : decode cX4_keepAct 45 = .ok (.isub, 1) := dk_100 (dk_at dksX4_keepAct_1 21 rfl rfl)
theorem dX4_keepAct_46 : decode cX4_keepAct 46 = .ok (.putfield 405, 3) := dk_181 1 149 (dk_at dksX4_keepAct_2 0 rfl rfl)
theorem dX4_keepAct_49 : decode cX4_keepAct 49 = .ok (.iconst 0, 1) := dk_3 (dk_at dksX4_keepAct_2 3 rfl rfl)
theorem dX4_keepAct_50 : decode cX4_keepAct 50 = .ok (.istore_n 1, 1) := dk_60 (dk_at dksX4_keepAct_2 4 rfl rfl)
theorem dX4_keepAct_51 : decode cX4_keepAct 51 = .ok (.iload_n 1, 1) := dk_27 (dk_at dksX4_keepAct_2 5 rfl rfl)
theorem dX4_keepAct_52 : decode cX4_keepAct 52 = .ok (.bipush 42, 2) := dk_16 42 (dk_at dksX4_keepAct_2 6 rfl rfl)
theorem dX4_keepAct_54 : decode cX4_keepAct 54 = .ok (.if_icmp .ge 29, 3) := dk_162 0 29 (dk_at dksX4_keepAct_2 8 rfl rfl)
theorem dX4_keepAct_57 : decode cX4_keepAct 57 = .ok (.aload_n 0, 1) := dk_42 (dk_at dksX4_keepAct_2 11 rfl rfl)
theorem dX4_keepAct_58 : decode cX4_keepAct 58 = .ok (.getfield 116, 3) := dk_180 0 116 (dk_at dksX4_keepAct_2 12 rfl rfl)
theorem dX4_keepAct_61 : decode cX4_keepAct 61 = .ok (.bipush 42, 2) := dk_16 42 (dk_at dksX4_keepAct_2 15 rfl rfl)
theorem dX4_keepAct_63 : decode cX4_keepAct 63 = .ok (.aload_n 0, 1) := dk_42 (dk_at dksX4_keepAct_2 17 rfl rfl)
theorem dX4_keepAct_64 : decode cX4_keepAct 64 = .ok (.getfield 405, 3) := dk_180 1 149 (dk_at dksX4_keepAct_2 18 rfl rfl)
theorem dX4_keepAct_67 : decode cX4_keepAct 67 = .ok (.imul, 1) := dk_104 (dk_at dksX4_keepAct_2 21 rfl rfl)
theorem dX4_keepAct_68 : decode cX4_keepAct 68 = .ok (.iload_n 1, 1) := dk_27 (dk_at dksX4_keepAct_2 22 rfl rfl)
theorem dX4_keepAct_69 : decode cX4_keepAct 69 = .ok (.iadd, 1) := dk_96 (dk_at dksX4_keepAct_2 23 rfl rfl)
theorem dX4_keepAct_70 : decode cX4_keepAct 70 = .ok (.aload_n 0, 1) := dk_42 (dk_at dksX4_keepAct_3 0 rfl rfl)
theorem dX4_keepAct_71 : decode cX4_keepAct 71 = .ok (.getfield 113, 3) := dk_180 0 113 (dk_at dksX4_keepAct_3 1 rfl rfl)
theorem dX4_keepAct_74 : decode cX4_keepAct 74 = .ok (.iload_n 1, 1) := dk_27 (dk_at dksX4_keepAct_3 4 rfl rfl)
theorem dX4_keepAct_75 : decode cX4_keepAct 75 = .ok (.iaload, 1) := dk_46 (dk_at dksX4_keepAct_3 5 rfl rfl)
theorem dX4_keepAct_76 : decode cX4_keepAct 76 = .ok (.iastore, 1) := dk_79 (dk_at dksX4_keepAct_3 6 rfl rfl)
theorem dX4_keepAct_77 : decode cX4_keepAct 77 = .ok (.iinc 1 1, 3) := dk_132 1 1 (dk_at dksX4_keepAct_3 7 rfl rfl)
theorem dX4_keepAct_80 : decode cX4_keepAct 80 = .ok (.goto (-29), 3) := dk_167 255 227 (dk_at dksX4_keepAct_3 10 rfl rfl)
theorem dX4_keepAct_83 : decode cX4_keepAct 83 = .ok (.aload_n 0, 1) := dk_42 (dk_at dksX4_keepAct_3 13 rfl rfl)
theorem dX4_keepAct_84 : decode cX4_keepAct 84 = .ok (.dup, 1) := dk_89 (dk_at dksX4_keepAct_3 14 rfl rfl)
theorem dX4_keepAct_85 : decode cX4_keepAct 85 = .ok (.getfield 405, 3) := dk_180 1 149 (dk_at dksX4_keepAct_3 15 rfl rfl)
theorem dX4_keepAct_88 : decode cX4_keepAct 88 = .ok (.iconst 1, 1) := dk_4 (dk_at dksX4_keepAct_3 18 rfl rfl)
theorem dX4_keepAct_89 : decode cX4_keepAct 89 = .ok (.iadd, 1) := dk_96 (dk_at dksX4_keepAct_3 19 rfl rfl)
theorem dX4_keepAct_90 : decode cX4_keepAct 90 = .ok (.putfield 405, 3) := dk_181 1 149 (dk_at dksX4_keepAct_3 20 rfl rfl)
theorem dX4_keepAct_93 : decode cX4_keepAct 93 = .ok (.aload_n 0, 1) := dk_42 (dk_at dksX4_keepAct_3 23 rfl rfl)
theorem dX4_keepAct_94 : decode cX4_keepAct 94 = .ok (.iconst 0, 1) := dk_3 (dk_at dksX4_keepAct_4 0 rfl rfl)
theorem dX4_keepAct_95 : decode cX4_keepAct 95 = .ok (.putfield 408, 3) := dk_181 1 152 (dk_at dksX4_keepAct_4 1 rfl rfl)
theorem dX4_keepAct_98 : decode cX4_keepAct 98 = .ok (.return_, 1) := dk_177 (dk_at dksX4_keepAct_4 4 rfl rfl)
abbrev cX4_lay : ByteArray := prog_22_method_57_code
def yX4_lay : MethodName := ⟨RX4, "lay", "(IIII)V"⟩
def dkwX4_lay_3 : List UInt8 := [4, 96, 104, 96, 28, 96, 92, 46, 21, 4, 42, 27, 29, 182, 1, 167, 104, 96, 79, 177]
abbrev dktX4_lay_3 : List UInt8 := dkwX4_lay_3 ++ []
def dkwX4_lay_2 : List UInt8 := [182, 1, 167, 104, 96, 79, 27, 4, 96, 42, 182, 1, 142, 162, 0, 30, 42, 180, 0, 113, 16, 20, 6, 27]
abbrev dktX4_lay_2 : List UInt8 := dkwX4_lay_2 ++ dktX4_lay_3
def dkwX4_lay_1 : List UInt8 := [42, 180, 0, 113, 16, 20, 6, 27, 4, 100, 104, 96, 28, 96, 92, 46, 21, 4, 42, 27, 4, 100, 29]
abbrev dktX4_lay_1 : List UInt8 := dkwX4_lay_1 ++ dktX4_lay_2
def dkwX4_lay_0 : List UInt8 := [42, 180, 0, 113, 16, 20, 6, 27, 104, 96, 28, 96, 92, 46, 21, 4, 29, 104, 96, 79, 27, 158, 0, 32]
abbrev dktX4_lay_0 : List UInt8 := dkwX4_lay_0 ++ dktX4_lay_1
theorem dksX4_lay_0 : cX4_lay.data.toList.drop 0 = dktX4_lay_0 := by decide +kernel
theorem dksX4_lay_1 : cX4_lay.data.toList.drop 24 = dktX4_lay_1 := dk_seg dksX4_lay_0 24 rfl rfl
theorem dksX4_lay_2 : cX4_lay.data.toList.drop 47 = dktX4_lay_2 := dk_seg dksX4_lay_1 23 rfl rfl
theorem dksX4_lay_3 : cX4_lay.data.toList.drop 71 = dktX4_lay_3 := dk_seg dksX4_lay_2 24 rfl rfl
theorem dX4_lay_0 : decode cX4_lay 0 = .ok (.aload_n 0, 1) := dk_42 (dk_at dksX4_lay_0 0 rfl rfl)
theorem dX4_lay_1 : decode cX4_lay 1 = .ok (.getfield 113, 3) := dk_180 0 113 (dk_at dksX4_lay_0 1 rfl rfl)
theorem dX4_lay_4 : decode cX4_lay 4 = .ok (.bipush 20, 2) := dk_16 20 (dk_at dksX4_lay_0 4 rfl rfl)
theorem dX4_lay_6 : decode cX4_lay 6 = .ok (.iconst 3, 1) := dk_6 (dk_at dksX4_lay_0 6 rfl rfl)
theorem dX4_lay_7 : decode cX4_lay 7 = .ok (.iload_n 1, 1) := dk_27 (dk_at dksX4_lay_0 7 rfl rfl)
theorem dX4_lay_8 : decode cX4_lay 8 = .ok (.imul, 1) := dk_104 (dk_at dksX4_lay_0 8 rfl rfl)
theorem dX4_lay_9 : decode cX4_lay 9 = .ok (.iadd, 1) := dk_96 (dk_at dksX4_lay_0 9 rfl rfl)
theorem dX4_lay_10 : decode cX4_lay 10 = .ok (.iload_n 2, 1) := dk_28 (dk_at dksX4_lay_0 10 rfl rfl)
theorem dX4_lay_11 : decode cX4_lay 11 = .ok (.iadd, 1) := dk_96 (dk_at dksX4_lay_0 11 rfl rfl)
theorem dX4_lay_12 : decode cX4_lay 12 = .ok (.dup2, 1) := dk_92 (dk_at dksX4_lay_0 12 rfl rfl)
theorem dX4_lay_13 : decode cX4_lay 13 = .ok (.iaload, 1) := dk_46 (dk_at dksX4_lay_0 13 rfl rfl)
theorem dX4_lay_14 : decode cX4_lay 14 = .ok (.iload 4, 2) := dk_21 4 (dk_at dksX4_lay_0 14 rfl rfl)
theorem dX4_lay_16 : decode cX4_lay 16 = .ok (.iload_n 3, 1) := dk_29 (dk_at dksX4_lay_0 16 rfl rfl)
theorem dX4_lay_17 : decode cX4_lay 17 = .ok (.imul, 1) := dk_104 (dk_at dksX4_lay_0 17 rfl rfl)
theorem dX4_lay_18 : decode cX4_lay 18 = .ok (.iadd, 1) := dk_96 (dk_at dksX4_lay_0 18 rfl rfl)
theorem dX4_lay_19 : decode cX4_lay 19 = .ok (.iastore, 1) := dk_79 (dk_at dksX4_lay_0 19 rfl rfl)
theorem dX4_lay_20 : decode cX4_lay 20 = .ok (.iload_n 1, 1) := dk_27 (dk_at dksX4_lay_0 20 rfl rfl)
theorem dX4_lay_21 : decode cX4_lay 21 = .ok (.ifCond .le 32, 3) := dk_158 0 32 (dk_at dksX4_lay_0 21 rfl rfl)
theorem dX4_lay_24 : decode cX4_lay 24 = .ok (.aload_n 0, 1) := dk_42 (dk_at dksX4_lay_1 0 rfl rfl)
theorem dX4_lay_25 : decode cX4_lay 25 = .ok (.getfield 113, 3) := dk_180 0 113 (dk_at dksX4_lay_1 1 rfl rfl)
theorem dX4_lay_28 : decode cX4_lay 28 = .ok (.bipush 20, 2) := dk_16 20 (dk_at dksX4_lay_1 4 rfl rfl)
theorem dX4_lay_30 : decode cX4_lay 30 = .ok (.iconst 3, 1) := dk_6 (dk_at dksX4_lay_1 6 rfl rfl)
theorem dX4_lay_31 : decode cX4_lay 31 = .ok (.iload_n 1, 1) := dk_27 (dk_at dksX4_lay_1 7 rfl rfl)
theorem dX4_lay_32 : decode cX4_lay 32 = .ok (.iconst 1, 1) := dk_4 (dk_at dksX4_lay_1 8 rfl rfl)
theorem dX4_lay_33 : decode cX4_lay 33 = .ok (.isub, 1) := dk_100 (dk_at dksX4_lay_1 9 rfl rfl)
theorem dX4_lay_34 : decode cX4_lay 34 = .ok (.imul, 1) := dk_104 (dk_at dksX4_lay_1 10 rfl rfl)
theorem dX4_lay_35 : decode cX4_lay 35 = .ok (.iadd, 1) := dk_96 (dk_at dksX4_lay_1 11 rfl rfl)
theorem dX4_lay_36 : decode cX4_lay 36 = .ok (.iload_n 2, 1) := dk_28 (dk_at dksX4_lay_1 12 rfl rfl)
theorem dX4_lay_37 : decode cX4_lay 37 = .ok (.iadd, 1) := dk_96 (dk_at dksX4_lay_1 13 rfl rfl)
theorem dX4_lay_38 : decode cX4_lay 38 = .ok (.dup2, 1) := dk_92 (dk_at dksX4_lay_1 14 rfl rfl)
theorem dX4_lay_39 : decode cX4_lay 39 = .ok (.iaload, 1) := dk_46 (dk_at dksX4_lay_1 15 rfl rfl)
theorem dX4_lay_40 : decode cX4_lay 40 = .ok (.iload 4, 2) := dk_21 4 (dk_at dksX4_lay_1 16 rfl rfl)
theorem dX4_lay_42 : decode cX4_lay 42 = .ok (.aload_n 0, 1) := dk_42 (dk_at dksX4_lay_1 18 rfl rfl)
theorem dX4_lay_43 : decode cX4_lay 43 = .ok (.iload_n 1, 1) := dk_27 (dk_at dksX4_lay_1 19 rfl rfl)
theorem dX4_lay_44 : decode cX4_lay 44 = .ok (.iconst 1, 1) := dk_4 (dk_at dksX4_lay_1 20 rfl rfl)
theorem dX4_lay_45 : decode cX4_lay 45 = .ok (.isub, 1) := dk_100 (dk_at dksX4_lay_1 21 rfl rfl)
theorem dX4_lay_46 : decode cX4_lay 46 = .ok (.iload_n 3, 1) := dk_29 (dk_at dksX4_lay_1 22 rfl rfl)
theorem dX4_lay_47 : decode cX4_lay 47 = .ok (.invokevirtual 423, 3) := dk_182 1 167 (dk_at dksX4_lay_2 0 rfl rfl)
theorem dX4_lay_50 : decode cX4_lay 50 = .ok (.imul, 1) := dk_104 (dk_at dksX4_lay_2 3 rfl rfl)
theorem dX4_lay_51 : decode cX4_lay 51 = .ok (.iadd, 1) := dk_96 (dk_at dksX4_lay_2 4 rfl rfl)
theorem dX4_lay_52 : decode cX4_lay 52 = .ok (.iastore, 1) := dk_79 (dk_at dksX4_lay_2 5 rfl rfl)
theorem dX4_lay_53 : decode cX4_lay 53 = .ok (.iload_n 1, 1) := dk_27 (dk_at dksX4_lay_2 6 rfl rfl)
theorem dX4_lay_54 : decode cX4_lay 54 = .ok (.iconst 1, 1) := dk_4 (dk_at dksX4_lay_2 7 rfl rfl)
theorem dX4_lay_55 : decode cX4_lay 55 = .ok (.iadd, 1) := dk_96 (dk_at dksX4_lay_2 8 rfl rfl)
theorem dX4_lay_56 : decode cX4_lay 56 = .ok (.aload_n 0, 1) := dk_42 (dk_at dksX4_lay_2 9 rfl rfl)
theorem dX4_lay_57 : decode cX4_lay 57 = .ok (.invokevirtual 398, 3) := dk_182 1 142 (dk_at dksX4_lay_2 10 rfl rfl)
theorem dX4_lay_60 : decode cX4_lay 60 = .ok (.if_icmp .ge 30, 3) := dk_162 0 30 (dk_at dksX4_lay_2 13 rfl rfl)
theorem dX4_lay_63 : decode cX4_lay 63 = .ok (.aload_n 0, 1) := dk_42 (dk_at dksX4_lay_2 16 rfl rfl)
theorem dX4_lay_64 : decode cX4_lay 64 = .ok (.getfield 113, 3) := dk_180 0 113 (dk_at dksX4_lay_2 17 rfl rfl)
theorem dX4_lay_67 : decode cX4_lay 67 = .ok (.bipush 20, 2) := dk_16 20 (dk_at dksX4_lay_2 20 rfl rfl)
theorem dX4_lay_69 : decode cX4_lay 69 = .ok (.iconst 3, 1) := dk_6 (dk_at dksX4_lay_2 22 rfl rfl)
theorem dX4_lay_70 : decode cX4_lay 70 = .ok (.iload_n 1, 1) := dk_27 (dk_at dksX4_lay_2 23 rfl rfl)
theorem dX4_lay_71 : decode cX4_lay 71 = .ok (.iconst 1, 1) := dk_4 (dk_at dksX4_lay_3 0 rfl rfl)
theorem dX4_lay_72 : decode cX4_lay 72 = .ok (.iadd, 1) := dk_96 (dk_at dksX4_lay_3 1 rfl rfl)
theorem dX4_lay_73 : decode cX4_lay 73 = .ok (.imul, 1) := dk_104 (dk_at dksX4_lay_3 2 rfl rfl)
theorem dX4_lay_74 : decode cX4_lay 74 = .ok (.iadd, 1) := dk_96 (dk_at dksX4_lay_3 3 rfl rfl)
theorem dX4_lay_75 : decode cX4_lay 75 = .ok (.iload_n 2, 1) := dk_28 (dk_at dksX4_lay_3 4 rfl rfl)
theorem dX4_lay_76 : decode cX4_lay 76 = .ok (.iadd, 1) := dk_96 (dk_at dksX4_lay_3 5 rfl rfl)
theorem dX4_lay_77 : decode cX4_lay 77 = .ok (.dup2, 1) := dk_92 (dk_at dksX4_lay_3 6 rfl rfl)
theorem dX4_lay_78 : decode cX4_lay 78 = .ok (.iaload, 1) := dk_46 (dk_at dksX4_lay_3 7 rfl rfl)
theorem dX4_lay_79 : decode cX4_lay 79 = .ok (.iload 4, 2) := dk_21 4 (dk_at dksX4_lay_3 8 rfl rfl)
theorem dX4_lay_81 : decode cX4_lay 81 = .ok (.aload_n 0, 1) := dk_42 (dk_at dksX4_lay_3 10 rfl rfl)
theorem dX4_lay_82 : decode cX4_lay 82 = .ok (.iload_n 1, 1) := dk_27 (dk_at dksX4_lay_3 11 rfl rfl)
theorem dX4_lay_83 : decode cX4_lay 83 = .ok (.iload_n 3, 1) := dk_29 (dk_at dksX4_lay_3 12 rfl rfl)
theorem dX4_lay_84 : decode cX4_lay 84 = .ok (.invokevirtual 423, 3) := dk_182 1 167 (dk_at dksX4_lay_3 13 rfl rfl)
theorem dX4_lay_87 : decode cX4_lay 87 = .ok (.imul, 1) := dk_104 (dk_at dksX4_lay_3 16 rfl rfl)
theorem dX4_lay_88 : decode cX4_lay 88 = .ok (.iadd, 1) := dk_96 (dk_at dksX4_lay_3 17 rfl rfl)
theorem dX4_lay_89 : decode cX4_lay 89 = .ok (.iastore, 1) := dk_79 (dk_at dksX4_lay_3 18 rfl rfl)
theorem dX4_lay_90 : decode cX4_lay 90 = .ok (.return_, 1) := dk_177 (dk_at dksX4_lay_3 19 rfl rfl)
abbrev cX4_leakTo : ByteArray := prog_22_method_56_code
def yX4_leakTo : MethodName := ⟨RX4, "leakTo", "(II)I"⟩
def dkwX4_leakTo_0 : List UInt8 := [28, 16, 10, 42, 180, 0, 51, 8, 42, 180, 1, 45, 104, 27, 96, 46, 100, 104, 16, 10, 108, 172]
abbrev dktX4_leakTo_0 : List UInt8 := dkwX4_leakTo_0 ++ []
theorem dksX4_leakTo_0 : cX4_leakTo.data.toList.drop 0 = dktX4_leakTo_0 := by decide +kernel
theorem dX4_leakTo_0 : decode cX4_leakTo 0 = .ok (.iload_n 2, 1) := dk_28 (dk_at dksX4_leakTo_0 0 rfl rfl)
theorem dX4_leakTo_1 : decode cX4_leakTo 1 = .ok (.bipush 10, 2) := dk_16 10 (dk_at dksX4_leakTo_0 1 rfl rfl)
theorem dX4_leakTo_3 : decode cX4_leakTo 3 = .ok (.aload_n 0, 1) := dk_42 (dk_at dksX4_leakTo_0 3 rfl rfl)
theorem dX4_leakTo_4 : decode cX4_leakTo 4 = .ok (.getfield 51, 3) := dk_180 0 51 (dk_at dksX4_leakTo_0 4 rfl rfl)
theorem dX4_leakTo_7 : decode cX4_leakTo 7 = .ok (.iconst 5, 1) := dk_8 (dk_at dksX4_leakTo_0 7 rfl rfl)
theorem dX4_leakTo_8 : decode cX4_leakTo 8 = .ok (.aload_n 0, 1) := dk_42 (dk_at dksX4_leakTo_0 8 rfl rfl)
theorem dX4_leakTo_9 : decode cX4_leakTo 9 = .ok (.getfield 301, 3) := dk_180 1 45 (dk_at dksX4_leakTo_0 9 rfl rfl)
theorem dX4_leakTo_12 : decode cX4_leakTo 12 = .ok (.imul, 1) := dk_104 (dk_at dksX4_leakTo_0 12 rfl rfl)
theorem dX4_leakTo_13 : decode cX4_leakTo 13 = .ok (.iload_n 1, 1) := dk_27 (dk_at dksX4_leakTo_0 13 rfl rfl)
theorem dX4_leakTo_14 : decode cX4_leakTo 14 = .ok (.iadd, 1) := dk_96 (dk_at dksX4_leakTo_0 14 rfl rfl)
theorem dX4_leakTo_15 : decode cX4_leakTo 15 = .ok (.iaload, 1) := dk_46 (dk_at dksX4_leakTo_0 15 rfl rfl)
theorem dX4_leakTo_16 : decode cX4_leakTo 16 = .ok (.isub, 1) := dk_100 (dk_at dksX4_leakTo_0 16 rfl rfl)
theorem dX4_leakTo_17 : decode cX4_leakTo 17 = .ok (.imul, 1) := dk_104 (dk_at dksX4_leakTo_0 17 rfl rfl)
theorem dX4_leakTo_18 : decode cX4_leakTo 18 = .ok (.bipush 10, 2) := dk_16 10 (dk_at dksX4_leakTo_0 18 rfl rfl)
theorem dX4_leakTo_20 : decode cX4_leakTo 20 = .ok (.idiv, 1) := dk_108 (dk_at dksX4_leakTo_0 20 rfl rfl)
theorem dX4_leakTo_21 : decode cX4_leakTo 21 = .ok (.ireturn, 1) := dk_172 (dk_at dksX4_leakTo_0 21 rfl rfl)
abbrev cX4_give : ByteArray := prog_22_method_69_code
def yX4_give : MethodName := ⟨RX4, "give", "(IIII)I"⟩
def dkwX4_give_3 : List UInt8 := [21, 4, 182, 1, 199, 42, 28, 29, 182, 1, 183, 172]
abbrev dktX4_give_3 : List UInt8 := dkwX4_give_3 ++ []
def dkwX4_give_2 : List UInt8 := [182, 1, 189, 42, 180, 0, 113, 3, 6, 27, 104, 96, 29, 96, 92, 46, 21, 4, 100, 79, 42, 28, 29]
abbrev dktX4_give_2 : List UInt8 := dkwX4_give_2 ++ dktX4_give_3
def dkwX4_give_1 : List UInt8 := [182, 1, 180, 153, 0, 18, 21, 4, 4, 42, 27, 29, 182, 1, 183, 184, 1, 145, 154, 0, 5, 2, 172, 42]
abbrev dktX4_give_1 : List UInt8 := dkwX4_give_1 ++ dktX4_give_2
def dkwX4_give_0 : List UInt8 := [42, 27, 182, 1, 170, 153, 0, 39, 42, 28, 182, 1, 170, 153, 0, 31, 27, 28, 159, 0, 26, 42, 29]
abbrev dktX4_give_0 : List UInt8 := dkwX4_give_0 ++ dktX4_give_1
theorem dksX4_give_0 : cX4_give.data.toList.drop 0 = dktX4_give_0 := by decide +kernel
theorem dksX4_give_1 : cX4_give.data.toList.drop 23 = dktX4_give_1 := dk_seg dksX4_give_0 23 rfl rfl
theorem dksX4_give_2 : cX4_give.data.toList.drop 47 = dktX4_give_2 := dk_seg dksX4_give_1 24 rfl rfl
theorem dksX4_give_3 : cX4_give.data.toList.drop 70 = dktX4_give_3 := dk_seg dksX4_give_2 23 rfl rfl
theorem dX4_give_0 : decode cX4_give 0 = .ok (.aload_n 0, 1) := dk_42 (dk_at dksX4_give_0 0 rfl rfl)
theorem dX4_give_1 : decode cX4_give 1 = .ok (.iload_n 1, 1) := dk_27 (dk_at dksX4_give_0 1 rfl rfl)
theorem dX4_give_2 : decode cX4_give 2 = .ok (.invokevirtual 426, 3) := dk_182 1 170 (dk_at dksX4_give_0 2 rfl rfl)
theorem dX4_give_5 : decode cX4_give 5 = .ok (.ifCond .eq 39, 3) := dk_153 0 39 (dk_at dksX4_give_0 5 rfl rfl)
theorem dX4_give_8 : decode cX4_give 8 = .ok (.aload_n 0, 1) := dk_42 (dk_at dksX4_give_0 8 rfl rfl)
theorem dX4_give_9 : decode cX4_give 9 = .ok (.iload_n 2, 1) := dk_28 (dk_at dksX4_give_0 9 rfl rfl)
theorem dX4_give_10 : decode cX4_give 10 = .ok (.invokevirtual 426, 3) := dk_182 1 170 (dk_at dksX4_give_0 10 rfl rfl)
theorem dX4_give_13 : decode cX4_give 13 = .ok (.ifCond .eq 31, 3) := dk_153 0 31 (dk_at dksX4_give_0 13 rfl rfl)
theorem dX4_give_16 : decode cX4_give 16 = .ok (.iload_n 1, 1) := dk_27 (dk_at dksX4_give_0 16 rfl rfl)
theorem dX4_give_17 : decode cX4_give 17 = .ok (.iload_n 2, 1) := dk_28 (dk_at dksX4_give_0 17 rfl rfl)
theorem dX4_give_18 : decode cX4_give 18 = .ok (.if_icmp .eq 26, 3) := dk_159 0 26 (dk_at dksX4_give_0 18 rfl rfl)
theorem dX4_give_21 : decode cX4_give 21 = .ok (.aload_n 0, 1) := dk_42 (dk_at dksX4_give_0 21 rfl rfl)
theorem dX4_give_22 : decode cX4_give 22 = .ok (.iload_n 3, 1) := dk_29 (dk_at dksX4_give_0 22 rfl rfl)
theorem dX4_give_23 : decode cX4_give 23 = .ok (.invokevirtual 436, 3) := dk_182 1 180 (dk_at dksX4_give_1 0 rfl rfl)
theorem dX4_give_26 : decode cX4_give 26 = .ok (.ifCond .eq 18, 3) := dk_153 0 18 (dk_at dksX4_give_1 3 rfl rfl)
theorem dX4_give_29 : decode cX4_give 29 = .ok (.iload 4, 2) := dk_21 4 (dk_at dksX4_give_1 6 rfl rfl)
theorem dX4_give_31 : decode cX4_give 31 = .ok (.iconst 1, 1) := dk_4 (dk_at dksX4_give_1 8 rfl rfl)
theorem dX4_give_32 : decode cX4_give 32 = .ok (.aload_n 0, 1) := dk_42 (dk_at dksX4_give_1 9 rfl rfl)
theorem dX4_give_33 : decode cX4_give 33 = .ok (.iload_n 1, 1) := dk_27 (dk_at dksX4_give_1 10 rfl rfl)
theorem dX4_give_34 : decode cX4_give 34 = .ok (.iload_n 3, 1) := dk_29 (dk_at dksX4_give_1 11 rfl rfl)
theorem dX4_give_35 : decode cX4_give 35 = .ok (.invokevirtual 439, 3) := dk_182 1 183 (dk_at dksX4_give_1 12 rfl rfl)
theorem dX4_give_38 : decode cX4_give 38 = .ok (.invokestatic 401, 3) := dk_184 1 145 (dk_at dksX4_give_1 15 rfl rfl)
theorem dX4_give_41 : decode cX4_give 41 = .ok (.ifCond .ne 5, 3) := dk_154 0 5 (dk_at dksX4_give_1 18 rfl rfl)
theorem dX4_give_44 : decode cX4_give 44 = .ok (.iconst (-1), 1) := dk_2 (dk_at dksX4_give_1 21 rfl rfl)
theorem dX4_give_45 : decode cX4_give 45 = .ok (.ireturn, 1) := dk_172 (dk_at dksX4_give_1 22 rfl rfl)
theorem dX4_give_46 : decode cX4_give 46 = .ok (.aload_n 0, 1) := dk_42 (dk_at dksX4_give_1 23 rfl rfl)
theorem dX4_give_47 : decode cX4_give 47 = .ok (.invokevirtual 445, 3) := dk_182 1 189 (dk_at dksX4_give_2 0 rfl rfl)
theorem dX4_give_50 : decode cX4_give 50 = .ok (.aload_n 0, 1) := dk_42 (dk_at dksX4_give_2 3 rfl rfl)
theorem dX4_give_51 : decode cX4_give 51 = .ok (.getfield 113, 3) := dk_180 0 113 (dk_at dksX4_give_2 4 rfl rfl)
theorem dX4_give_54 : decode cX4_give 54 = .ok (.iconst 0, 1) := dk_3 (dk_at dksX4_give_2 7 rfl rfl)
theorem dX4_give_55 : decode cX4_give 55 = .ok (.iconst 3, 1) := dk_6 (dk_at dksX4_give_2 8 rfl rfl)
theorem dX4_give_56 : decode cX4_give 56 = .ok (.iload_n 1, 1) := dk_27 (dk_at dksX4_give_2 9 rfl rfl)
theorem dX4_give_57 : decode cX4_give 57 = .ok (.imul, 1) := dk_104 (dk_at dksX4_give_2 10 rfl rfl)
theorem dX4_give_58 : decode cX4_give 58 = .ok (.iadd, 1) := dk_96 (dk_at dksX4_give_2 11 rfl rfl)
theorem dX4_give_59 : decode cX4_give 59 = .ok (.iload_n 3, 1) := dk_29 (dk_at dksX4_give_2 12 rfl rfl)
theorem dX4_give_60 : decode cX4_give 60 = .ok (.iadd, 1) := dk_96 (dk_at dksX4_give_2 13 rfl rfl)
theorem dX4_give_61 : decode cX4_give 61 = .ok (.dup2, 1) := dk_92 (dk_at dksX4_give_2 14 rfl rfl)
theorem dX4_give_62 : decode cX4_give 62 = .ok (.iaload, 1) := dk_46 (dk_at dksX4_give_2 15 rfl rfl)
theorem dX4_give_63 : decode cX4_give 63 = .ok (.iload 4, 2) := dk_21 4 (dk_at dksX4_give_2 16 rfl rfl)
theorem dX4_give_65 : decode cX4_give 65 = .ok (.isub, 1) := dk_100 (dk_at dksX4_give_2 18 rfl rfl)
theorem dX4_give_66 : decode cX4_give 66 = .ok (.iastore, 1) := dk_79 (dk_at dksX4_give_2 19 rfl rfl)
theorem dX4_give_67 : decode cX4_give 67 = .ok (.aload_n 0, 1) := dk_42 (dk_at dksX4_give_2 20 rfl rfl)
theorem dX4_give_68 : decode cX4_give 68 = .ok (.iload_n 2, 1) := dk_28 (dk_at dksX4_give_2 21 rfl rfl)
theorem dX4_give_69 : decode cX4_give 69 = .ok (.iload_n 3, 1) := dk_29 (dk_at dksX4_give_2 22 rfl rfl)
theorem dX4_give_70 : decode cX4_give 70 = .ok (.iload 4, 2) := dk_21 4 (dk_at dksX4_give_3 0 rfl rfl)
theorem dX4_give_72 : decode cX4_give 72 = .ok (.invokevirtual 455, 3) := dk_182 1 199 (dk_at dksX4_give_3 2 rfl rfl)
theorem dX4_give_75 : decode cX4_give 75 = .ok (.aload_n 0, 1) := dk_42 (dk_at dksX4_give_3 5 rfl rfl)
theorem dX4_give_76 : decode cX4_give 76 = .ok (.iload_n 2, 1) := dk_28 (dk_at dksX4_give_3 6 rfl rfl)
theorem dX4_give_77 : decode cX4_give 77 = .ok (.iload_n 3, 1) := dk_29 (dk_at dksX4_give_3 7 rfl rfl)
theorem dX4_give_78 : decode cX4_give 78 = .ok (.invokevirtual 439, 3) := dk_182 1 183 (dk_at dksX4_give_3 8 rfl rfl)
theorem dX4_give_81 : decode cX4_give 81 = .ok (.ireturn, 1) := dk_172 (dk_at dksX4_give_3 11 rfl rfl)
abbrev cX4_gets : ByteArray := prog_22_method_68_code
def yX4_gets : MethodName := ⟨RX4, "gets", "(III)V"⟩
def dkwX4_gets_1 : List UInt8 := [79, 177]
abbrev dktX4_gets_1 : List UInt8 := dkwX4_gets_1 ++ []
def dkwX4_gets_0 : List UInt8 := [42, 180, 0, 113, 3, 6, 27, 104, 96, 28, 96, 16, 99, 42, 27, 28, 182, 1, 183, 29, 96, 184, 1, 196]
abbrev dktX4_gets_0 : List UInt8 := dkwX4_gets_0 ++ dktX4_gets_1
theorem dksX4_gets_0 : cX4_gets.data.toList.drop 0 = dktX4_gets_0 := by decide +kernel
theorem dksX4_gets_1 : cX4_gets.data.toList.drop 24 = dktX4_gets_1 := dk_seg dksX4_gets_0 24 rfl rfl
theorem dX4_gets_0 : decode cX4_gets 0 = .ok (.aload_n 0, 1) := dk_42 (dk_at dksX4_gets_0 0 rfl rfl)
theorem dX4_gets_1 : decode cX4_gets 1 = .ok (.getfield 113, 3) := dk_180 0 113 (dk_at dksX4_gets_0 1 rfl rfl)
theorem dX4_gets_4 : decode cX4_gets 4 = .ok (.iconst 0, 1) := dk_3 (dk_at dksX4_gets_0 4 rfl rfl)
theorem dX4_gets_5 : decode cX4_gets 5 = .ok (.iconst 3, 1) := dk_6 (dk_at dksX4_gets_0 5 rfl rfl)
theorem dX4_gets_6 : decode cX4_gets 6 = .ok (.iload_n 1, 1) := dk_27 (dk_at dksX4_gets_0 6 rfl rfl)
theorem dX4_gets_7 : decode cX4_gets 7 = .ok (.imul, 1) := dk_104 (dk_at dksX4_gets_0 7 rfl rfl)
theorem dX4_gets_8 : decode cX4_gets 8 = .ok (.iadd, 1) := dk_96 (dk_at dksX4_gets_0 8 rfl rfl)
theorem dX4_gets_9 : decode cX4_gets 9 = .ok (.iload_n 2, 1) := dk_28 (dk_at dksX4_gets_0 9 rfl rfl)
theorem dX4_gets_10 : decode cX4_gets 10 = .ok (.iadd, 1) := dk_96 (dk_at dksX4_gets_0 10 rfl rfl)
theorem dX4_gets_11 : decode cX4_gets 11 = .ok (.bipush 99, 2) := dk_16 99 (dk_at dksX4_gets_0 11 rfl rfl)
theorem dX4_gets_13 : decode cX4_gets 13 = .ok (.aload_n 0, 1) := dk_42 (dk_at dksX4_gets_0 13 rfl rfl)
theorem dX4_gets_14 : decode cX4_gets 14 = .ok (.iload_n 1, 1) := dk_27 (dk_at dksX4_gets_0 14 rfl rfl)
theorem dX4_gets_15 : decode cX4_gets 15 = .ok (.iload_n 2, 1) := dk_28 (dk_at dksX4_gets_0 15 rfl rfl)
theorem dX4_gets_16 : decode cX4_gets 16 = .ok (.invokevirtual 439, 3) := dk_182 1 183 (dk_at dksX4_gets_0 16 rfl rfl)
theorem dX4_gets_19 : decode cX4_gets 19 = .ok (.iload_n 3, 1) := dk_29 (dk_at dksX4_gets_0 19 rfl rfl)
theorem dX4_gets_20 : decode cX4_gets 20 = .ok (.iadd, 1) := dk_96 (dk_at dksX4_gets_0 20 rfl rfl)
theorem dX4_gets_21 : decode cX4_gets 21 = .ok (.invokestatic 452, 3) := dk_184 1 196 (dk_at dksX4_gets_0 21 rfl rfl)
theorem dX4_gets_24 : decode cX4_gets 24 = .ok (.iastore, 1) := dk_79 (dk_at dksX4_gets_1 0 rfl rfl)
theorem dX4_gets_25 : decode cX4_gets 25 = .ok (.return_, 1) := dk_177 (dk_at dksX4_gets_1 1 rfl rfl)
abbrev cX4_lesser : ByteArray := prog_22_method_45_code
def yX4_lesser : MethodName := ⟨RX4, "lesser", "(II)I"⟩
def dkwX4_lesser_0 : List UInt8 := [26, 27, 162, 0, 7, 26, 167, 0, 4, 27, 172]
abbrev dktX4_lesser_0 : List UInt8 := dkwX4_lesser_0 ++ []
theorem dksX4_lesser_0 : cX4_lesser.data.toList.drop 0 = dktX4_lesser_0 := by decide +kernel
theorem dX4_lesser_0 : decode cX4_lesser 0 = .ok (.iload_n 0, 1) := dk_26 (dk_at dksX4_lesser_0 0 rfl rfl)
theorem dX4_lesser_1 : decode cX4_lesser 1 = .ok (.iload_n 1, 1) := dk_27 (dk_at dksX4_lesser_0 1 rfl rfl)
theorem dX4_lesser_2 : decode cX4_lesser 2 = .ok (.if_icmp .ge 7, 3) := dk_162 0 7 (dk_at dksX4_lesser_0 2 rfl rfl)
theorem dX4_lesser_5 : decode cX4_lesser 5 = .ok (.iload_n 0, 1) := dk_26 (dk_at dksX4_lesser_0 5 rfl rfl)
theorem dX4_lesser_6 : decode cX4_lesser 6 = .ok (.goto 4, 3) := dk_167 0 4 (dk_at dksX4_lesser_0 6 rfl rfl)
theorem dX4_lesser_9 : decode cX4_lesser 9 = .ok (.iload_n 1, 1) := dk_27 (dk_at dksX4_lesser_0 9 rfl rfl)
theorem dX4_lesser_10 : decode cX4_lesser 10 = .ok (.ireturn, 1) := dk_172 (dk_at dksX4_lesser_0 10 rfl rfl)
abbrev cX4_change : ByteArray := prog_22_method_70_code
def yX4_change : MethodName := ⟨RX4, "change", "(III)I"⟩
def dkwX4_change_4 : List UInt8 := [79, 42, 27, 29, 42, 180, 0, 69, 21, 4, 46, 182, 1, 199, 42, 27, 29, 182, 1, 183, 172]
abbrev dktX4_change_4 : List UInt8 := dkwX4_change_4 ++ []
def dkwX4_change_3 : List UInt8 := [182, 1, 189, 42, 180, 0, 113, 3, 6, 27, 104, 96, 28, 96, 92, 46, 42, 180, 0, 66, 21, 4, 46, 100]
abbrev dktX4_change_3 : List UInt8 := dkwX4_change_3 ++ dktX4_change_4
def dkwX4_change_2 : List UInt8 := [153, 0, 19, 42, 27, 28, 182, 1, 183, 42, 180, 0, 66, 21, 4, 46, 162, 0, 5, 2, 172, 42]
abbrev dktX4_change_2 : List UInt8 := dkwX4_change_2 ++ dktX4_change_3
def dkwX4_change_1 : List UInt8 := [2, 172, 16, 9, 42, 180, 1, 45, 104, 6, 28, 104, 96, 29, 96, 54, 4, 42, 180, 0, 66, 21, 4, 46]
abbrev dktX4_change_1 : List UInt8 := dkwX4_change_1 ++ dktX4_change_2
def dkwX4_change_0 : List UInt8 := [42, 27, 182, 1, 170, 153, 0, 19, 42, 28, 182, 1, 180, 153, 0, 11, 42, 29, 182, 1, 180, 154, 0, 5]
abbrev dktX4_change_0 : List UInt8 := dkwX4_change_0 ++ dktX4_change_1
theorem dksX4_change_0 : cX4_change.data.toList.drop 0 = dktX4_change_0 := by decide +kernel
theorem dksX4_change_1 : cX4_change.data.toList.drop 24 = dktX4_change_1 := dk_seg dksX4_change_0 24 rfl rfl
theorem dksX4_change_2 : cX4_change.data.toList.drop 48 = dktX4_change_2 := dk_seg dksX4_change_1 24 rfl rfl
theorem dksX4_change_3 : cX4_change.data.toList.drop 70 = dktX4_change_3 := dk_seg dksX4_change_2 22 rfl rfl
theorem dksX4_change_4 : cX4_change.data.toList.drop 94 = dktX4_change_4 := dk_seg dksX4_change_3 24 rfl rfl
theorem dX4_change_0 : decode cX4_change 0 = .ok (.aload_n 0, 1) := dk_42 (dk_at dksX4_change_0 0 rfl rfl)
theorem dX4_change_1 : decode cX4_change 1 = .ok (.iload_n 1, 1) := dk_27 (dk_at dksX4_change_0 1 rfl rfl)
theorem dX4_change_2 : decode cX4_change 2 = .ok (.invokevirtual 426, 3) := dk_182 1 170 (dk_at dksX4_change_0 2 rfl rfl)
theorem dX4_change_5 : decode cX4_change 5 = .ok (.ifCond .eq 19, 3) := dk_153 0 19 (dk_at dksX4_change_0 5 rfl rfl)
theorem dX4_change_8 : decode cX4_change 8 = .ok (.aload_n 0, 1) := dk_42 (dk_at dksX4_change_0 8 rfl rfl)
theorem dX4_change_9 : decode cX4_change 9 = .ok (.iload_n 2, 1) := dk_28 (dk_at dksX4_change_0 9 rfl rfl)
theorem dX4_change_10 : decode cX4_change 10 = .ok (.invokevirtual 436, 3) := dk_182 1 180 (dk_at dksX4_change_0 10 rfl rfl)
theorem dX4_change_13 : decode cX4_change 13 = .ok (.ifCond .eq 11, 3) := dk_153 0 11 (dk_at dksX4_change_0 13 rfl rfl)
theorem dX4_change_16 : decode cX4_change 16 = .ok (.aload_n 0, 1) := dk_42 (dk_at dksX4_change_0 16 rfl rfl)
theorem dX4_change_17 : decode cX4_change 17 = .ok (.iload_n 3, 1) := dk_29 (dk_at dksX4_change_0 17 rfl rfl)
theorem dX4_change_18 : decode cX4_change 18 = .ok (.invokevirtual 436, 3) := dk_182 1 180 (dk_at dksX4_change_0 18 rfl rfl)
theorem dX4_change_21 : decode cX4_change 21 = .ok (.ifCond .ne 5, 3) := dk_154 0 5 (dk_at dksX4_change_0 21 rfl rfl)
theorem dX4_change_24 : decode cX4_change 24 = .ok (.iconst (-1), 1) := dk_2 (dk_at dksX4_change_1 0 rfl rfl)
theorem dX4_change_25 : decode cX4_change 25 = .ok (.ireturn, 1) := dk_172 (dk_at dksX4_change_1 1 rfl rfl)
theorem dX4_change_26 : decode cX4_change 26 = .ok (.bipush 9, 2) := dk_16 9 (dk_at dksX4_change_1 2 rfl rfl)
theorem dX4_change_28 : decode cX4_change 28 = .ok (.aload_n 0, 1) := dk_42 (dk_at dksX4_change_1 4 rfl rfl)
theorem dX4_change_29 : decode cX4_change 29 = .ok (.getfield 301, 3) := dk_180 1 45 (dk_at dksX4_change_1 5 rfl rfl)
theorem dX4_change_32 : decode cX4_change 32 = .ok (.imul, 1) := dk_104 (dk_at dksX4_change_1 8 rfl rfl)
theorem dX4_change_33 : decode cX4_change 33 = .ok (.iconst 3, 1) := dk_6 (dk_at dksX4_change_1 9 rfl rfl)
theorem dX4_change_34 : decode cX4_change 34 = .ok (.iload_n 2, 1) := dk_28 (dk_at dksX4_change_1 10 rfl rfl)
theorem dX4_change_35 : decode cX4_change 35 = .ok (.imul, 1) := dk_104 (dk_at dksX4_change_1 11 rfl rfl)
theorem dX4_change_36 : decode cX4_change 36 = .ok (.iadd, 1) := dk_96 (dk_at dksX4_change_1 12 rfl rfl)
theorem dX4_change_37 : decode cX4_change 37 = .ok (.iload_n 3, 1) := dk_29 (dk_at dksX4_change_1 13 rfl rfl)
theorem dX4_change_38 : decode cX4_change 38 = .ok (.iadd, 1) := dk_96 (dk_at dksX4_change_1 14 rfl rfl)
theorem dX4_change_39 : decode cX4_change 39 = .ok (.istore 4, 2) := dk_54 4 (dk_at dksX4_change_1 15 rfl rfl)
theorem dX4_change_41 : decode cX4_change 41 = .ok (.aload_n 0, 1) := dk_42 (dk_at dksX4_change_1 17 rfl rfl)
theorem dX4_change_42 : decode cX4_change 42 = .ok (.getfield 66, 3) := dk_180 0 66 (dk_at dksX4_change_1 18 rfl rfl)
theorem dX4_change_45 : decode cX4_change 45 = .ok (.iload 4, 2) := dk_21 4 (dk_at dksX4_change_1 21 rfl rfl)
theorem dX4_change_47 : decode cX4_change 47 = .ok (.iaload, 1) := dk_46 (dk_at dksX4_change_1 23 rfl rfl)
theorem dX4_change_48 : decode cX4_change 48 = .ok (.ifCond .eq 19, 3) := dk_153 0 19 (dk_at dksX4_change_2 0 rfl rfl)
theorem dX4_change_51 : decode cX4_change 51 = .ok (.aload_n 0, 1) := dk_42 (dk_at dksX4_change_2 3 rfl rfl)
theorem dX4_change_52 : decode cX4_change 52 = .ok (.iload_n 1, 1) := dk_27 (dk_at dksX4_change_2 4 rfl rfl)
theorem dX4_change_53 : decode cX4_change 53 = .ok (.iload_n 2, 1) := dk_28 (dk_at dksX4_change_2 5 rfl rfl)
theorem dX4_change_54 : decode cX4_change 54 = .ok (.invokevirtual 439, 3) := dk_182 1 183 (dk_at dksX4_change_2 6 rfl rfl)
theorem dX4_change_57 : decode cX4_change 57 = .ok (.aload_n 0, 1) := dk_42 (dk_at dksX4_change_2 9 rfl rfl)
theorem dX4_change_58 : decode cX4_change 58 = .ok (.getfield 66, 3) := dk_180 0 66 (dk_at dksX4_change_2 10 rfl rfl)
theorem dX4_change_61 : decode cX4_change 61 = .ok (.iload 4, 2) := dk_21 4 (dk_at dksX4_change_2 13 rfl rfl)
theorem dX4_change_63 : decode cX4_change 63 = .ok (.iaload, 1) := dk_46 (dk_at dksX4_change_2 15 rfl rfl)
theorem dX4_change_64 : decode cX4_change 64 = .ok (.if_icmp .ge 5, 3) := dk_162 0 5 (dk_at dksX4_change_2 16 rfl rfl)
theorem dX4_change_67 : decode cX4_change 67 = .ok (.iconst (-1), 1) := dk_2 (dk_at dksX4_change_2 19 rfl rfl)
theorem dX4_change_68 : decode cX4_change 68 = .ok (.ireturn, 1) := dk_172 (dk_at dksX4_change_2 20 rfl rfl)
theorem dX4_change_69 : decode cX4_change 69 = .ok (.aload_n 0, 1) := dk_42 (dk_at dksX4_change_2 21 rfl rfl)
theorem dX4_change_70 : decode cX4_change 70 = .ok (.invokevirtual 445, 3) := dk_182 1 189 (dk_at dksX4_change_3 0 rfl rfl)
theorem dX4_change_73 : decode cX4_change 73 = .ok (.aload_n 0, 1) := dk_42 (dk_at dksX4_change_3 3 rfl rfl)
theorem dX4_change_74 : decode cX4_change 74 = .ok (.getfield 113, 3) := dk_180 0 113 (dk_at dksX4_change_3 4 rfl rfl)
theorem dX4_change_77 : decode cX4_change 77 = .ok (.iconst 0, 1) := dk_3 (dk_at dksX4_change_3 7 rfl rfl)
theorem dX4_change_78 : decode cX4_change 78 = .ok (.iconst 3, 1) := dk_6 (dk_at dksX4_change_3 8 rfl rfl)
theorem dX4_change_79 : decode cX4_change 79 = .ok (.iload_n 1, 1) := dk_27 (dk_at dksX4_change_3 9 rfl rfl)
theorem dX4_change_80 : decode cX4_change 80 = .ok (.imul, 1) := dk_104 (dk_at dksX4_change_3 10 rfl rfl)
theorem dX4_change_81 : decode cX4_change 81 = .ok (.iadd, 1) := dk_96 (dk_at dksX4_change_3 11 rfl rfl)
theorem dX4_change_82 : decode cX4_change 82 = .ok (.iload_n 2, 1) := dk_28 (dk_at dksX4_change_3 12 rfl rfl)
theorem dX4_change_83 : decode cX4_change 83 = .ok (.iadd, 1) := dk_96 (dk_at dksX4_change_3 13 rfl rfl)
theorem dX4_change_84 : decode cX4_change 84 = .ok (.dup2, 1) := dk_92 (dk_at dksX4_change_3 14 rfl rfl)
theorem dX4_change_85 : decode cX4_change 85 = .ok (.iaload, 1) := dk_46 (dk_at dksX4_change_3 15 rfl rfl)
theorem dX4_change_86 : decode cX4_change 86 = .ok (.aload_n 0, 1) := dk_42 (dk_at dksX4_change_3 16 rfl rfl)
theorem dX4_change_87 : decode cX4_change 87 = .ok (.getfield 66, 3) := dk_180 0 66 (dk_at dksX4_change_3 17 rfl rfl)
theorem dX4_change_90 : decode cX4_change 90 = .ok (.iload 4, 2) := dk_21 4 (dk_at dksX4_change_3 20 rfl rfl)
theorem dX4_change_92 : decode cX4_change 92 = .ok (.iaload, 1) := dk_46 (dk_at dksX4_change_3 22 rfl rfl)
theorem dX4_change_93 : decode cX4_change 93 = .ok (.isub, 1) := dk_100 (dk_at dksX4_change_3 23 rfl rfl)
theorem dX4_change_94 : decode cX4_change 94 = .ok (.iastore, 1) := dk_79 (dk_at dksX4_change_4 0 rfl rfl)
theorem dX4_change_95 : decode cX4_change 95 = .ok (.aload_n 0, 1) := dk_42 (dk_at dksX4_change_4 1 rfl rfl)
theorem dX4_change_96 : decode cX4_change 96 = .ok (.iload_n 1, 1) := dk_27 (dk_at dksX4_change_4 2 rfl rfl)
theorem dX4_change_97 : decode cX4_change 97 = .ok (.iload_n 3, 1) := dk_29 (dk_at dksX4_change_4 3 rfl rfl)
theorem dX4_change_98 : decode cX4_change 98 = .ok (.aload_n 0, 1) := dk_42 (dk_at dksX4_change_4 4 rfl rfl)
theorem dX4_change_99 : decode cX4_change 99 = .ok (.getfield 69, 3) := dk_180 0 69 (dk_at dksX4_change_4 5 rfl rfl)
theorem dX4_change_102 : decode cX4_change 102 = .ok (.iload 4, 2) := dk_21 4 (dk_at dksX4_change_4 8 rfl rfl)
theorem dX4_change_104 : decode cX4_change 104 = .ok (.iaload, 1) := dk_46 (dk_at dksX4_change_4 10 rfl rfl)
theorem dX4_change_105 : decode cX4_change 105 = .ok (.invokevirtual 455, 3) := dk_182 1 199 (dk_at dksX4_change_4 11 rfl rfl)
theorem dX4_change_108 : decode cX4_change 108 = .ok (.aload_n 0, 1) := dk_42 (dk_at dksX4_change_4 14 rfl rfl)
theorem dX4_change_109 : decode cX4_change 109 = .ok (.iload_n 1, 1) := dk_27 (dk_at dksX4_change_4 15 rfl rfl)
theorem dX4_change_110 : decode cX4_change 110 = .ok (.iload_n 3, 1) := dk_29 (dk_at dksX4_change_4 16 rfl rfl)
theorem dX4_change_111 : decode cX4_change 111 = .ok (.invokevirtual 439, 3) := dk_182 1 183 (dk_at dksX4_change_4 17 rfl rfl)
theorem dX4_change_114 : decode cX4_change 114 = .ok (.ireturn, 1) := dk_172 (dk_at dksX4_change_4 20 rfl rfl)
abbrev cX4_week : ByteArray := prog_22_method_73_code
def yX4_week : MethodName := ⟨RX4, "week", "()I"⟩
def dkwX4_week_1 : List UInt8 := [182, 1, 213, 172]
abbrev dktX4_week_1 : List UInt8 := dkwX4_week_1 ++ []
def dkwX4_week_0 : List UInt8 := [42, 180, 0, 113, 16, 40, 46, 17, 3, 231, 160, 0, 7, 19, 1, 173, 172, 42, 182, 1, 189, 42]
abbrev dktX4_week_0 : List UInt8 := dkwX4_week_0 ++ dktX4_week_1
theorem dksX4_week_0 : cX4_week.data.toList.drop 0 = dktX4_week_0 := by decide +kernel
theorem dksX4_week_1 : cX4_week.data.toList.drop 22 = dktX4_week_1 := dk_seg dksX4_week_0 22 rfl rfl
theorem dX4_week_0 : decode cX4_week 0 = .ok (.aload_n 0, 1) := dk_42 (dk_at dksX4_week_0 0 rfl rfl)
theorem dX4_week_1 : decode cX4_week 1 = .ok (.getfield 113, 3) := dk_180 0 113 (dk_at dksX4_week_0 1 rfl rfl)
theorem dX4_week_4 : decode cX4_week 4 = .ok (.bipush 40, 2) := dk_16 40 (dk_at dksX4_week_0 4 rfl rfl)
theorem dX4_week_6 : decode cX4_week 6 = .ok (.iaload, 1) := dk_46 (dk_at dksX4_week_0 6 rfl rfl)
theorem dX4_week_7 : decode cX4_week 7 = .ok (.sipush 999, 3) := dk_17 3 231 (dk_at dksX4_week_0 7 rfl rfl)
theorem dX4_week_10 : decode cX4_week 10 = .ok (.if_icmp .ne 7, 3) := dk_160 0 7 (dk_at dksX4_week_0 10 rfl rfl)
theorem dX4_week_13 : decode cX4_week 13 = .ok (.ldc_w 429, 3) := dk_19 1 173 (dk_at dksX4_week_0 13 rfl rfl)
theorem dX4_week_16 : decode cX4_week 16 = .ok (.ireturn, 1) := dk_172 (dk_at dksX4_week_0 16 rfl rfl)
theorem dX4_week_17 : decode cX4_week 17 = .ok (.aload_n 0, 1) := dk_42 (dk_at dksX4_week_0 17 rfl rfl)
theorem dX4_week_18 : decode cX4_week 18 = .ok (.invokevirtual 445, 3) := dk_182 1 189 (dk_at dksX4_week_0 18 rfl rfl)
theorem dX4_week_21 : decode cX4_week 21 = .ok (.aload_n 0, 1) := dk_42 (dk_at dksX4_week_0 21 rfl rfl)
theorem dX4_week_22 : decode cX4_week 22 = .ok (.invokevirtual 469, 3) := dk_182 1 213 (dk_at dksX4_week_1 0 rfl rfl)
theorem dX4_week_25 : decode cX4_week 25 = .ok (.ireturn, 1) := dk_172 (dk_at dksX4_week_1 3 rfl rfl)
abbrev cX4_goWeek : ByteArray := prog_22_method_72_code
def yX4_goWeek : MethodName := ⟨RX4, "goWeek", "()I"⟩
def dkwX4_goWeek_7 : List UInt8 := [180, 0, 113, 16, 40, 92, 46, 4, 96, 79, 27, 172]
abbrev dktX4_goWeek_7 : List UInt8 := dkwX4_goWeek_7 ++ []
def dkwX4_goWeek_6 : List UInt8 := [28, 29, 42, 28, 29, 182, 1, 177, 182, 1, 199, 132, 3, 1, 167, 255, 222, 132, 2, 1, 167, 255, 196, 42]
abbrev dktX4_goWeek_6 : List UInt8 := dkwX4_goWeek_6 ++ dktX4_goWeek_7
def dkwX4_goWeek_5 : List UInt8 := [3, 79, 3, 62, 29, 6, 162, 0, 35, 42, 180, 0, 113, 16, 20, 6, 28, 104, 96, 29, 96, 3, 79, 42]
abbrev dktX4_goWeek_5 : List UInt8 := dkwX4_goWeek_5 ++ dktX4_goWeek_6
def dkwX4_goWeek_4 : List UInt8 := [132, 2, 1, 167, 255, 206, 3, 61, 28, 42, 182, 1, 142, 162, 0, 58, 42, 180, 0, 113, 16, 35, 28, 96]
abbrev dktX4_goWeek_4 : List UInt8 := dkwX4_goWeek_4 ++ dktX4_goWeek_5
def dkwX4_goWeek_3 : List UInt8 := [180, 0, 113, 16, 15, 28, 96, 29, 156, 0, 7, 3, 167, 0, 9, 16, 99, 29, 184, 1, 196, 79]
abbrev dktX4_goWeek_3 : List UInt8 := dkwX4_goWeek_3 ++ dktX4_goWeek_4
def dkwX4_goWeek_2 : List UInt8 := [182, 1, 142, 162, 0, 48, 42, 180, 0, 113, 16, 15, 28, 96, 46, 42, 28, 182, 1, 164, 96, 62, 42]
abbrev dktX4_goWeek_2 : List UInt8 := dkwX4_goWeek_2 ++ dktX4_goWeek_3
def dkwX4_goWeek_1 : List UInt8 := [153, 0, 8, 42, 27, 182, 1, 207, 132, 1, 1, 167, 255, 224, 42, 182, 1, 210, 60, 3, 61, 28, 42]
abbrev dktX4_goWeek_1 : List UInt8 := dkwX4_goWeek_1 ++ dktX4_goWeek_2
def dkwX4_goWeek_0 : List UInt8 := [3, 60, 27, 42, 182, 1, 142, 162, 0, 30, 42, 180, 0, 42, 42, 180, 1, 45, 46, 27, 184, 1, 203]
abbrev dktX4_goWeek_0 : List UInt8 := dkwX4_goWeek_0 ++ dktX4_goWeek_1
theorem dksX4_goWeek_0 : cX4_goWeek.data.toList.drop 0 = dktX4_goWeek_0 := by decide +kernel
theorem dksX4_goWeek_1 : cX4_goWeek.data.toList.drop 23 = dktX4_goWeek_1 := dk_seg dksX4_goWeek_0 23 rfl rfl
theorem dksX4_goWeek_2 : cX4_goWeek.data.toList.drop 46 = dktX4_goWeek_2 := dk_seg dksX4_goWeek_1 23 rfl rfl
theorem dksX4_goWeek_3 : cX4_goWeek.data.toList.drop 69 = dktX4_goWeek_3 := dk_seg dksX4_goWeek_2 23 rfl rfl
theorem dksX4_goWeek_4 : cX4_goWeek.data.toList.drop 91 = dktX4_goWeek_4 := dk_seg dksX4_goWeek_3 22 rfl rfl
theorem dksX4_goWeek_5 : cX4_goWeek.data.toList.drop 115 = dktX4_goWeek_5 := dk_seg dksX4_goWeek_4 24 rfl rfl
theorem dksX4_goWeek_6 : cX4_goWeek.data.toList.drop 139 = dktX4_goWeek_6 := dk_seg dksX4_goWeek_5 24 rfl rfl
theorem dksX4_goWeek_7 : cX4_goWeek.data.toList.drop 163 = dktX4_goWeek_7 := dk_seg dksX4_goWeek_6 24 rfl rfl
theorem dX4_goWeek_0 : decode cX4_goWeek 0 = .ok (.iconst 0, 1) := dk_3 (dk_at dksX4_goWeek_0 0 rfl rfl)
theorem dX4_goWeek_1 : decode cX4_goWeek 1 = .ok (.istore_n 1, 1) := dk_60 (dk_at dksX4_goWeek_0 1 rfl rfl)
theorem dX4_goWeek_2 : decode cX4_goWeek 2 = .ok (.iload_n 1, 1) := dk_27 (dk_at dksX4_goWeek_0 2 rfl rfl)
theorem dX4_goWeek_3 : decode cX4_goWeek 3 = .ok (.aload_n 0, 1) := dk_42 (dk_at dksX4_goWeek_0 3 rfl rfl)
theorem dX4_goWeek_4 : decode cX4_goWeek 4 = .ok (.invokevirtual 398, 3) := dk_182 1 142 (dk_at dksX4_goWeek_0 4 rfl rfl)
theorem dX4_goWeek_7 : decode cX4_goWeek 7 = .ok (.if_icmp .ge 30, 3) := dk_162 0 30 (dk_at dksX4_goWeek_0 7 rfl rfl)
theorem dX4_goWeek_10 : decode cX4_goWeek 10 = .ok (.aload_n 0, 1) := dk_42 (dk_at dksX4_goWeek_0 10 rfl rfl)
theorem dX4_goWeek_11 : decode cX4_goWeek 11 = .ok (.getfield 42, 3) := dk_180 0 42 (dk_at dksX4_goWeek_0 11 rfl rfl)
theorem dX4_goWeek_14 : decode cX4_goWeek 14 = .ok (.aload_n 0, 1) := dk_42 (dk_at dksX4_goWeek_0 14 rfl rfl)
theorem dX4_goWeek_15 : decode cX4_goWeek 15 = .ok (.getfield 301, 3) := dk_180 1 45 (dk_at dksX4_goWeek_0 15 rfl rfl)
theorem dX4_goWeek_18 : decode cX4_goWeek 18 = .ok (.iaload, 1) := dk_46 (dk_at dksX4_goWeek_0 18 rfl rfl)
theorem dX4_goWeek_19 : decode cX4_goWeek 19 = .ok (.iload_n 1, 1) := dk_27 (dk_at dksX4_goWeek_0 19 rfl rfl)
theorem dX4_goWeek_20 : decode cX4_goWeek 20 = .ok (.invokestatic 459, 3) := dk_184 1 203 (dk_at dksX4_goWeek_0 20 rfl rfl)
theorem dX4_goWeek_23 : decode cX4_goWeek 23 = .ok (.ifCond .eq 8, 3) := dk_153 0 8 (dk_at dksX4_goWeek_1 0 rfl rfl)
theorem dX4_goWeek_26 : decode cX4_goWeek 26 = .ok (.aload_n 0, 1) := dk_42 (dk_at dksX4_goWeek_1 3 rfl rfl)
theorem dX4_goWeek_27 : decode cX4_goWeek 27 = .ok (.iload_n 1, 1) := dk_27 (dk_at dksX4_goWeek_1 4 rfl rfl)
theorem dX4_goWeek_28 : decode cX4_goWeek 28 = .ok (.invokevirtual 463, 3) := dk_182 1 207 (dk_at dksX4_goWeek_1 5 rfl rfl)
theorem dX4_goWeek_31 : decode cX4_goWeek 31 = .ok (.iinc 1 1, 3) := dk_132 1 1 (dk_at dksX4_goWeek_1 8 rfl rfl)
theorem dX4_goWeek_34 : decode cX4_goWeek 34 = .ok (.goto (-32), 3) := dk_167 255 224 (dk_at dksX4_goWeek_1 11 rfl rfl)
theorem dX4_goWeek_37 : decode cX4_goWeek 37 = .ok (.aload_n 0, 1) := dk_42 (dk_at dksX4_goWeek_1 14 rfl rfl)
theorem dX4_goWeek_38 : decode cX4_goWeek 38 = .ok (.invokevirtual 466, 3) := dk_182 1 210 (dk_at dksX4_goWeek_1 15 rfl rfl)
theorem dX4_goWeek_41 : decode cX4_goWeek 41 = .ok (.istore_n 1, 1) := dk_60 (dk_at dksX4_goWeek_1 18 rfl rfl)
theorem dX4_goWeek_42 : decode cX4_goWeek 42 = .ok (.iconst 0, 1) := dk_3 (dk_at dksX4_goWeek_1 19 rfl rfl)
theorem dX4_goWeek_43 : decode cX4_goWeek 43 = .ok (.istore_n 2, 1) := dk_61 (dk_at dksX4_goWeek_1 20 rfl rfl)
theorem dX4_goWeek_44 : decode cX4_goWeek 44 = .ok (.iload_n 2, 1) := dk_28 (dk_at dksX4_goWeek_1 21 rfl rfl)
theorem dX4_goWeek_45 : decode cX4_goWeek 45 = .ok (.aload_n 0, 1) := dk_42 (dk_at dksX4_goWeek_1 22 rfl rfl)
theorem dX4_goWeek_46 : decode cX4_goWeek 46 = .ok (.invokevirtual 398, 3) := dk_182 1 142 (dk_at dksX4_goWeek_2 0 rfl rfl)
theorem dX4_goWeek_49 : decode cX4_goWeek 49 = .ok (.if_icmp .ge 48, 3) := dk_162 0 48 (dk_at dksX4_goWeek_2 3 rfl rfl)
theorem dX4_goWeek_52 : decode cX4_goWeek 52 = .ok (.aload_n 0, 1) := dk_42 (dk_at dksX4_goWeek_2 6 rfl rfl)
theorem dX4_goWeek_53 : decode cX4_goWeek 53 = .ok (.getfield 113, 3) := dk_180 0 113 (dk_at dksX4_goWeek_2 7 rfl rfl)
theorem dX4_goWeek_56 : decode cX4_goWeek 56 = .ok (.bipush 15, 2) := dk_16 15 (dk_at dksX4_goWeek_2 10 rfl rfl)
theorem dX4_goWeek_58 : decode cX4_goWeek 58 = .ok (.iload_n 2, 1) := dk_28 (dk_at dksX4_goWeek_2 12 rfl rfl)
theorem dX4_goWeek_59 : decode cX4_goWeek 59 = .ok (.iadd, 1) := dk_96 (dk_at dksX4_goWeek_2 13 rfl rfl)
theorem dX4_goWeek_60 : decode cX4_goWeek 60 = .ok (.iaload, 1) := dk_46 (dk_at dksX4_goWeek_2 14 rfl rfl)
theorem dX4_goWeek_61 : decode cX4_goWeek 61 = .ok (.aload_n 0, 1) := dk_42 (dk_at dksX4_goWeek_2 15 rfl rfl)
theorem dX4_goWeek_62 : decode cX4_goWeek 62 = .ok (.iload_n 2, 1) := dk_28 (dk_at dksX4_goWeek_2 16 rfl rfl)
theorem dX4_goWeek_63 : decode cX4_goWeek 63 = .ok (.invokevirtual 420, 3) := dk_182 1 164 (dk_at dksX4_goWeek_2 17 rfl rfl)
theorem dX4_goWeek_66 : decode cX4_goWeek 66 = .ok (.iadd, 1) := dk_96 (dk_at dksX4_goWeek_2 20 rfl rfl)
theorem dX4_goWeek_67 : decode cX4_goWeek 67 = .ok (.istore_n 3, 1) := dk_62 (dk_at dksX4_goWeek_2 21 rfl rfl)
theorem dX4_goWeek_68 : decode cX4_goWeek 68 = .ok (.aload_n 0, 1) := dk_42 (dk_at dksX4_goWeek_2 22 rfl rfl)
theorem dX4_goWeek_69 : decode cX4_goWeek 69 = .ok (.getfield 113, 3) := dk_180 0 113 (dk_at dksX4_goWeek_3 0 rfl rfl)
theorem dX4_goWeek_72 : decode cX4_goWeek 72 = .ok (.bipush 15, 2) := dk_16 15 (dk_at dksX4_goWeek_3 3 rfl rfl)
theorem dX4_goWeek_74 : decode cX4_goWeek 74 = .ok (.iload_n 2, 1) := dk_28 (dk_at dksX4_goWeek_3 5 rfl rfl)
theorem dX4_goWeek_75 : decode cX4_goWeek 75 = .ok (.iadd, 1) := dk_96 (dk_at dksX4_goWeek_3 6 rfl rfl)
theorem dX4_goWeek_76 : decode cX4_goWeek 76 = .ok (.iload_n 3, 1) := dk_29 (dk_at dksX4_goWeek_3 7 rfl rfl)
theorem dX4_goWeek_77 : decode cX4_goWeek 77 = .ok (.ifCond .ge 7, 3) := dk_156 0 7 (dk_at dksX4_goWeek_3 8 rfl rfl)
theorem dX4_goWeek_80 : decode cX4_goWeek 80 = .ok (.iconst 0, 1) := dk_3 (dk_at dksX4_goWeek_3 11 rfl rfl)
theorem dX4_goWeek_81 : decode cX4_goWeek 81 = .ok (.goto 9, 3) := dk_167 0 9 (dk_at dksX4_goWeek_3 12 rfl rfl)
theorem dX4_goWeek_84 : decode cX4_goWeek 84 = .ok (.bipush 99, 2) := dk_16 99 (dk_at dksX4_goWeek_3 15 rfl rfl)
theorem dX4_goWeek_86 : decode cX4_goWeek 86 = .ok (.iload_n 3, 1) := dk_29 (dk_at dksX4_goWeek_3 17 rfl rfl)
theorem dX4_goWeek_87 : decode cX4_goWeek 87 = .ok (.invokestatic 452, 3) := dk_184 1 196 (dk_at dksX4_goWeek_3 18 rfl rfl)
theorem dX4_goWeek_90 : decode cX4_goWeek 90 = .ok (.iastore, 1) := dk_79 (dk_at dksX4_goWeek_3 21 rfl rfl)
theorem dX4_goWeek_91 : decode cX4_goWeek 91 = .ok (.iinc 2 1, 3) := dk_132 2 1 (dk_at dksX4_goWeek_4 0 rfl rfl)
theorem dX4_goWeek_94 : decode cX4_goWeek 94 = .ok (.goto (-50), 3) := dk_167 255 206 (dk_at dksX4_goWeek_4 3 rfl rfl)
theorem dX4_goWeek_97 : decode cX4_goWeek 97 = .ok (.iconst 0, 1) := dk_3 (dk_at dksX4_goWeek_4 6 rfl rfl)
theorem dX4_goWeek_98 : decode cX4_goWeek 98 = .ok (.istore_n 2, 1) := dk_61 (dk_at dksX4_goWeek_4 7 rfl rfl)
theorem dX4_goWeek_99 : decode cX4_goWeek 99 = .ok (.iload_n 2, 1) := dk_28 (dk_at dksX4_goWeek_4 8 rfl rfl)
theorem dX4_goWeek_100 : decode cX4_goWeek 100 = .ok (.aload_n 0, 1) := dk_42 (dk_at dksX4_goWeek_4 9 rfl rfl)
theorem dX4_goWeek_101 : decode cX4_goWeek 101 = .ok (.invokevirtual 398, 3) := dk_182 1 142 (dk_at dksX4_goWeek_4 10 rfl rfl)
theorem dX4_goWeek_104 : decode cX4_goWeek 104 = .ok (.if_icmp .ge 58, 3) := dk_162 0 58 (dk_at dksX4_goWeek_4 13 rfl rfl)
theorem dX4_goWeek_107 : decode cX4_goWeek 107 = .ok (.aload_n 0, 1) := dk_42 (dk_at dksX4_goWeek_4 16 rfl rfl)
theorem dX4_goWeek_108 : decode cX4_goWeek 108 = .ok (.getfield 113, 3) := dk_180 0 113 (dk_at dksX4_goWeek_4 17 rfl rfl)
theorem dX4_goWeek_111 : decode cX4_goWeek 111 = .ok (.bipush 35, 2) := dk_16 35 (dk_at dksX4_goWeek_4 20 rfl rfl)
theorem dX4_goWeek_113 : decode cX4_goWeek 113 = .ok (.iload_n 2, 1) := dk_28 (dk_at dksX4_goWeek_4 22 rfl rfl)
theorem dX4_goWeek_114 : decode cX4_goWeek 114 = .ok (.iadd, 1) := dk_96 (dk_at dksX4_goWeek_4 23 rfl rfl)
theorem dX4_goWeek_115 : decode cX4_goWeek 115 = .ok (.iconst 0, 1) := dk_3 (dk_at dksX4_goWeek_5 0 rfl rfl)
theorem dX4_goWeek_116 : decode cX4_goWeek 116 = .ok (.iastore, 1) := dk_79 (dk_at dksX4_goWeek_5 1 rfl rfl)
theorem dX4_goWeek_117 : decode cX4_goWeek 117 = .ok (.iconst 0, 1) := dk_3 (dk_at dksX4_goWeek_5 2 rfl rfl)
theorem dX4_goWeek_118 : decode cX4_goWeek 118 = .ok (.istore_n 3, 1) := dk_62 (dk_at dksX4_goWeek_5 3 rfl rfl)
theorem dX4_goWeek_119 : decode cX4_goWeek 119 = .ok (.iload_n 3, 1) := dk_29 (dk_at dksX4_goWeek_5 4 rfl rfl)
theorem dX4_goWeek_120 : decode cX4_goWeek 120 = .ok (.iconst 3, 1) := dk_6 (dk_at dksX4_goWeek_5 5 rfl rfl)
theorem dX4_goWeek_121 : decode cX4_goWeek 121 = .ok (.if_icmp .ge 35, 3) := dk_162 0 35 (dk_at dksX4_goWeek_5 6 rfl rfl)
theorem dX4_goWeek_124 : decode cX4_goWeek 124 = .ok (.aload_n 0, 1) := dk_42 (dk_at dksX4_goWeek_5 9 rfl rfl)
theorem dX4_goWeek_125 : decode cX4_goWeek 125 = .ok (.getfield 113, 3) := dk_180 0 113 (dk_at dksX4_goWeek_5 10 rfl rfl)
theorem dX4_goWeek_128 : decode cX4_goWeek 128 = .ok (.bipush 20, 2) := dk_16 20 (dk_at dksX4_goWeek_5 13 rfl rfl)
theorem dX4_goWeek_130 : decode cX4_goWeek 130 = .ok (.iconst 3, 1) := dk_6 (dk_at dksX4_goWeek_5 15 rfl rfl)
theorem dX4_goWeek_131 : decode cX4_goWeek 131 = .ok (.iload_n 2, 1) := dk_28 (dk_at dksX4_goWeek_5 16 rfl rfl)
theorem dX4_goWeek_132 : decode cX4_goWeek 132 = .ok (.imul, 1) := dk_104 (dk_at dksX4_goWeek_5 17 rfl rfl)
theorem dX4_goWeek_133 : decode cX4_goWeek 133 = .ok (.iadd, 1) := dk_96 (dk_at dksX4_goWeek_5 18 rfl rfl)
theorem dX4_goWeek_134 : decode cX4_goWeek 134 = .ok (.iload_n 3, 1) := dk_29 (dk_at dksX4_goWeek_5 19 rfl rfl)
theorem dX4_goWeek_135 : decode cX4_goWeek 135 = .ok (.iadd, 1) := dk_96 (dk_at dksX4_goWeek_5 20 rfl rfl)
theorem dX4_goWeek_136 : decode cX4_goWeek 136 = .ok (.iconst 0, 1) := dk_3 (dk_at dksX4_goWeek_5 21 rfl rfl)
theorem dX4_goWeek_137 : decode cX4_goWeek 137 = .ok (.iastore, 1) := dk_79 (dk_at dksX4_goWeek_5 22 rfl rfl)
theorem dX4_goWeek_138 : decode cX4_goWeek 138 = .ok (.aload_n 0, 1) := dk_42 (dk_at dksX4_goWeek_5 23 rfl rfl)
theorem dX4_goWeek_139 : decode cX4_goWeek 139 = .ok (.iload_n 2, 1) := dk_28 (dk_at dksX4_goWeek_6 0 rfl rfl)
theorem dX4_goWeek_140 : decode cX4_goWeek 140 = .ok (.iload_n 3, 1) := dk_29 (dk_at dksX4_goWeek_6 1 rfl rfl)
theorem dX4_goWeek_141 : decode cX4_goWeek 141 = .ok (.aload_n 0, 1) := dk_42 (dk_at dksX4_goWeek_6 2 rfl rfl)
theorem dX4_goWeek_142 : decode cX4_goWeek 142 = .ok (.iload_n 2, 1) := dk_28 (dk_at dksX4_goWeek_6 3 rfl rfl)
theorem dX4_goWeek_143 : decode cX4_goWeek 143 = .ok (.iload_n 3, 1) := dk_29 (dk_at dksX4_goWeek_6 4 rfl rfl)
theorem dX4_goWeek_144 : decode cX4_goWeek 144 = .ok (.invokevirtual 433, 3) := dk_182 1 177 (dk_at dksX4_goWeek_6 5 rfl rfl)
theorem dX4_goWeek_147 : decode cX4_goWeek 147 = .ok (.invokevirtual 455, 3) := dk_182 1 199 (dk_at dksX4_goWeek_6 8 rfl rfl)
theorem dX4_goWeek_150 : decode cX4_goWeek 150 = .ok (.iinc 3 1, 3) := dk_132 3 1 (dk_at dksX4_goWeek_6 11 rfl rfl)
theorem dX4_goWeek_153 : decode cX4_goWeek 153 = .ok (.goto (-34), 3) := dk_167 255 222 (dk_at dksX4_goWeek_6 14 rfl rfl)
theorem dX4_goWeek_156 : decode cX4_goWeek 156 = .ok (.iinc 2 1, 3) := dk_132 2 1 (dk_at dksX4_goWeek_6 17 rfl rfl)
theorem dX4_goWeek_159 : decode cX4_goWeek 159 = .ok (.goto (-60), 3) := dk_167 255 196 (dk_at dksX4_goWeek_6 20 rfl rfl)
theorem dX4_goWeek_162 : decode cX4_goWeek 162 = .ok (.aload_n 0, 1) := dk_42 (dk_at dksX4_goWeek_6 23 rfl rfl)
theorem dX4_goWeek_163 : decode cX4_goWeek 163 = .ok (.getfield 113, 3) := dk_180 0 113 (dk_at dksX4_goWeek_7 0 rfl rfl)
theorem dX4_goWeek_166 : decode cX4_goWeek 166 = .ok (.bipush 40, 2) := dk_16 40 (dk_at dksX4_goWeek_7 3 rfl rfl)
theorem dX4_goWeek_168 : decode cX4_goWeek 168 = .ok (.dup2, 1) := dk_92 (dk_at dksX4_goWeek_7 5 rfl rfl)
theorem dX4_goWeek_169 : decode cX4_goWeek 169 = .ok (.iaload, 1) := dk_46 (dk_at dksX4_goWeek_7 6 rfl rfl)
theorem dX4_goWeek_170 : decode cX4_goWeek 170 = .ok (.iconst 1, 1) := dk_4 (dk_at dksX4_goWeek_7 7 rfl rfl)
theorem dX4_goWeek_171 : decode cX4_goWeek 171 = .ok (.iadd, 1) := dk_96 (dk_at dksX4_goWeek_7 8 rfl rfl)
theorem dX4_goWeek_172 : decode cX4_goWeek 172 = .ok (.iastore, 1) := dk_79 (dk_at dksX4_goWeek_7 9 rfl rfl)
theorem dX4_goWeek_173 : decode cX4_goWeek 173 = .ok (.iload_n 1, 1) := dk_27 (dk_at dksX4_goWeek_7 10 rfl rfl)
theorem dX4_goWeek_174 : decode cX4_goWeek 174 = .ok (.ireturn, 1) := dk_172 (dk_at dksX4_goWeek_7 11 rfl rfl)
abbrev cX4_has : ByteArray := prog_22_method_44_code
def yX4_has : MethodName := ⟨RX4, "has", "(II)Z"⟩
def dkwX4_has_0 : List UInt8 := [26, 27, 122, 4, 126, 4, 160, 0, 7, 4, 167, 0, 4, 3, 172]
abbrev dktX4_has_0 : List UInt8 := dkwX4_has_0 ++ []
theorem dksX4_has_0 : cX4_has.data.toList.drop 0 = dktX4_has_0 := by decide +kernel
theorem dX4_has_0 : decode cX4_has 0 = .ok (.iload_n 0, 1) := dk_26 (dk_at dksX4_has_0 0 rfl rfl)
theorem dX4_has_1 : decode cX4_has 1 = .ok (.iload_n 1, 1) := dk_27 (dk_at dksX4_has_0 1 rfl rfl)
theorem dX4_has_2 : decode cX4_has 2 = .ok (.ishr, 1) := dk_122 (dk_at dksX4_has_0 2 rfl rfl)
theorem dX4_has_3 : decode cX4_has 3 = .ok (.iconst 1, 1) := dk_4 (dk_at dksX4_has_0 3 rfl rfl)
theorem dX4_has_4 : decode cX4_has 4 = .ok (.iand, 1) := dk_126 (dk_at dksX4_has_0 4 rfl rfl)
theorem dX4_has_5 : decode cX4_has 5 = .ok (.iconst 1, 1) := dk_4 (dk_at dksX4_has_0 5 rfl rfl)
theorem dX4_has_6 : decode cX4_has 6 = .ok (.if_icmp .ne 7, 3) := dk_160 0 7 (dk_at dksX4_has_0 6 rfl rfl)
theorem dX4_has_9 : decode cX4_has 9 = .ok (.iconst 1, 1) := dk_4 (dk_at dksX4_has_0 9 rfl rfl)
theorem dX4_has_10 : decode cX4_has 10 = .ok (.goto 4, 3) := dk_167 0 4 (dk_at dksX4_has_0 10 rfl rfl)
theorem dX4_has_13 : decode cX4_has 13 = .ok (.iconst 0, 1) := dk_3 (dk_at dksX4_has_0 13 rfl rfl)
theorem dX4_has_14 : decode cX4_has 14 = .ok (.ireturn, 1) := dk_172 (dk_at dksX4_has_0 14 rfl rfl)
abbrev cX4_loosen : ByteArray := prog_22_method_71_code
def yX4_loosen : MethodName := ⟨RX4, "loosen", "(I)V"⟩
def dkwX4_loosen_3 : List UInt8 := [3, 6, 27, 104, 96, 28, 96, 92, 46, 4, 100, 79, 42, 27, 28, 4, 4, 182, 1, 192, 177]
abbrev dktX4_loosen_3 : List UInt8 := dkwX4_loosen_3 ++ []
def dkwX4_loosen_2 : List UInt8 := [180, 0, 20, 42, 180, 1, 45, 46, 112, 61, 42, 27, 28, 182, 1, 183, 154, 0, 4, 177, 42, 180, 0, 113]
abbrev dktX4_loosen_2 : List UInt8 := dkwX4_loosen_2 ++ dktX4_loosen_3
def dkwX4_loosen_1 : List UInt8 := [79, 42, 180, 0, 20, 42, 180, 1, 45, 46, 154, 0, 4, 177, 42, 180, 0, 113, 16, 41, 46, 42]
abbrev dktX4_loosen_1 : List UInt8 := dkwX4_loosen_1 ++ dktX4_loosen_2
def dkwX4_loosen_0 : List UInt8 := [42, 180, 0, 113, 16, 41, 17, 0, 137, 42, 180, 0, 113, 16, 41, 46, 104, 16, 71, 96, 17, 3, 232, 112]
abbrev dktX4_loosen_0 : List UInt8 := dkwX4_loosen_0 ++ dktX4_loosen_1
theorem dksX4_loosen_0 : cX4_loosen.data.toList.drop 0 = dktX4_loosen_0 := by decide +kernel
theorem dksX4_loosen_1 : cX4_loosen.data.toList.drop 24 = dktX4_loosen_1 := dk_seg dksX4_loosen_0 24 rfl rfl
theorem dksX4_loosen_2 : cX4_loosen.data.toList.drop 46 = dktX4_loosen_2 := dk_seg dksX4_loosen_1 22 rfl rfl
theorem dksX4_loosen_3 : cX4_loosen.data.toList.drop 70 = dktX4_loosen_3 := dk_seg dksX4_loosen_2 24 rfl rfl
theorem dX4_loosen_0 : decode cX4_loosen 0 = .ok (.aload_n 0, 1) := dk_42 (dk_at dksX4_loosen_0 0 rfl rfl)
theorem dX4_loosen_1 : decode cX4_loosen 1 = .ok (.getfield 113, 3) := dk_180 0 113 (dk_at dksX4_loosen_0 1 rfl rfl)
theorem dX4_loosen_4 : decode cX4_loosen 4 = .ok (.bipush 41, 2) := dk_16 41 (dk_at dksX4_loosen_0 4 rfl rfl)
theorem dX4_loosen_6 : decode cX4_loosen 6 = .ok (.sipush 137, 3) := dk_17 0 137 (dk_at dksX4_loosen_0 6 rfl rfl)
theorem dX4_loosen_9 : decode cX4_loosen 9 = .ok (.aload_n 0, 1) := dk_42 (dk_at dksX4_loosen_0 9 rfl rfl)
theorem dX4_loosen_10 : decode cX4_loosen 10 = .ok (.getfield 113, 3) := dk_180 0 113 (dk_at dksX4_loosen_0 10 rfl rfl)
theorem dX4_loosen_13 : decode cX4_loosen 13 = .ok (.bipush 41, 2) := dk_16 41 (dk_at dksX4_loosen_0 13 rfl rfl)
theorem dX4_loosen_15 : decode cX4_loosen 15 = .ok (.iaload, 1) := dk_46 (dk_at dksX4_loosen_0 15 rfl rfl)
theorem dX4_loosen_16 : decode cX4_loosen 16 = .ok (.imul, 1) := dk_104 (dk_at dksX4_loosen_0 16 rfl rfl)
theorem dX4_loosen_17 : decode cX4_loosen 17 = .ok (.bipush 71, 2) := dk_16 71 (dk_at dksX4_loosen_0 17 rfl rfl)
theorem dX4_loosen_19 : decode cX4_loosen 19 = .ok (.iadd, 1) := dk_96 (dk_at dksX4_loosen_0 19 rfl rfl)
theorem dX4_loosen_20 : decode cX4_loosen 20 = .ok (.sipush 1000, 3) := dk_17 3 232 (dk_at dksX4_loosen_0 20 rfl rfl)
theorem dX4_loosen_23 : decode cX4_loosen 23 = .ok (.irem, 1) := dk_112 (dk_at dksX4_loosen_0 23 rfl rfl)
theorem dX4_loosen_24 : decode cX4_loosen 24 = .ok (.iastore, 1) := dk_79 (dk_at dksX4_loosen_1 0 rfl rfl)
theorem dX4_loosen_25 : decode cX4_loosen 25 = .ok (.aload_n 0, 1) := dk_42 (dk_at dksX4_loosen_1 1 rfl rfl)
theorem dX4_loosen_26 : decode cX4_loosen 26 = .ok (.getfield 20, 3) := dk_180 0 20 (dk_at dksX4_loosen_1 2 rfl rfl)
theorem dX4_loosen_29 : decode cX4_loosen 29 = .ok (.aload_n 0, 1) := dk_42 (dk_at dksX4_loosen_1 5 rfl rfl)
theorem dX4_loosen_30 : decode cX4_loosen 30 = .ok (.getfield 301, 3) := dk_180 1 45 (dk_at dksX4_loosen_1 6 rfl rfl)
theorem dX4_loosen_33 : decode cX4_loosen 33 = .ok (.iaload, 1) := dk_46 (dk_at dksX4_loosen_1 9 rfl rfl)
theorem dX4_loosen_34 : decode cX4_loosen 34 = .ok (.ifCond .ne 4, 3) := dk_154 0 4 (dk_at dksX4_loosen_1 10 rfl rfl)
theorem dX4_loosen_37 : decode cX4_loosen 37 = .ok (.return_, 1) := dk_177 (dk_at dksX4_loosen_1 13 rfl rfl)
theorem dX4_loosen_38 : decode cX4_loosen 38 = .ok (.aload_n 0, 1) := dk_42 (dk_at dksX4_loosen_1 14 rfl rfl)
theorem dX4_loosen_39 : decode cX4_loosen 39 = .ok (.getfield 113, 3) := dk_180 0 113 (dk_at dksX4_loosen_1 15 rfl rfl)
theorem dX4_loosen_42 : decode cX4_loosen 42 = .ok (.bipush 41, 2) := dk_16 41 (dk_at dksX4_loosen_1 18 rfl rfl)
theorem dX4_loosen_44 : decode cX4_loosen 44 = .ok (.iaload, 1) := dk_46 (dk_at dksX4_loosen_1 20 rfl rfl)
theorem dX4_loosen_45 : decode cX4_loosen 45 = .ok (.aload_n 0, 1) := dk_42 (dk_at dksX4_loosen_1 21 rfl rfl)
theorem dX4_loosen_46 : decode cX4_loosen 46 = .ok (.getfield 20, 3) := dk_180 0 20 (dk_at dksX4_loosen_2 0 rfl rfl)
theorem dX4_loosen_49 : decode cX4_loosen 49 = .ok (.aload_n 0, 1) := dk_42 (dk_at dksX4_loosen_2 3 rfl rfl)
theorem dX4_loosen_50 : decode cX4_loosen 50 = .ok (.getfield 301, 3) := dk_180 1 45 (dk_at dksX4_loosen_2 4 rfl rfl)
theorem dX4_loosen_53 : decode cX4_loosen 53 = .ok (.iaload, 1) := dk_46 (dk_at dksX4_loosen_2 7 rfl rfl)
theorem dX4_loosen_54 : decode cX4_loosen 54 = .ok (.irem, 1) := dk_112 (dk_at dksX4_loosen_2 8 rfl rfl)
theorem dX4_loosen_55 : decode cX4_loosen 55 = .ok (.istore_n 2, 1) := dk_61 (dk_at dksX4_loosen_2 9 rfl rfl)
theorem dX4_loosen_56 : decode cX4_loosen 56 = .ok (.aload_n 0, 1) := dk_42 (dk_at dksX4_loosen_2 10 rfl rfl)
theorem dX4_loosen_57 : decode cX4_loosen 57 = .ok (.iload_n 1, 1) := dk_27 (dk_at dksX4_loosen_2 11 rfl rfl)
theorem dX4_loosen_58 : decode cX4_loosen 58 = .ok (.iload_n 2, 1) := dk_28 (dk_at dksX4_loosen_2 12 rfl rfl)
theorem dX4_loosen_59 : decode cX4_loosen 59 = .ok (.invokevirtual 439, 3) := dk_182 1 183 (dk_at dksX4_loosen_2 13 rfl rfl)
theorem dX4_loosen_62 : decode cX4_loosen 62 = .ok (.ifCond .ne 4, 3) := dk_154 0 4 (dk_at dksX4_loosen_2 16 rfl rfl)
theorem dX4_loosen_65 : decode cX4_loosen 65 = .ok (.return_, 1) := dk_177 (dk_at dksX4_loosen_2 19 rfl rfl)
theorem dX4_loosen_66 : decode cX4_loosen 66 = .ok (.aload_n 0, 1) := dk_42 (dk_at dksX4_loosen_2 20 rfl rfl)
theorem dX4_loosen_67 : decode cX4_loosen 67 = .ok (.getfield 113, 3) := dk_180 0 113 (dk_at dksX4_loosen_2 21 rfl rfl)
theorem dX4_loosen_70 : decode cX4_loosen 70 = .ok (.iconst 0, 1) := dk_3 (dk_at dksX4_loosen_3 0 rfl rfl)
theorem dX4_loosen_71 : decode cX4_loosen 71 = .ok (.iconst 3, 1) := dk_6 (dk_at dksX4_loosen_3 1 rfl rfl)
theorem dX4_loosen_72 : decode cX4_loosen 72 = .ok (.iload_n 1, 1) := dk_27 (dk_at dksX4_loosen_3 2 rfl rfl)
theorem dX4_loosen_73 : decode cX4_loosen 73 = .ok (.imul, 1) := dk_104 (dk_at dksX4_loosen_3 3 rfl rfl)
theorem dX4_loosen_74 : decode cX4_loosen 74 = .ok (.iadd, 1) := dk_96 (dk_at dksX4_loosen_3 4 rfl rfl)
theorem dX4_loosen_75 : decode cX4_loosen 75 = .ok (.iload_n 2, 1) := dk_28 (dk_at dksX4_loosen_3 5 rfl rfl)
theorem dX4_loosen_76 : decode cX4_loosen 76 = .ok (.iadd, 1) := dk_96 (dk_at dksX4_loosen_3 6 rfl rfl)
theorem dX4_loosen_77 : decode cX4_loosen 77 = .ok (.dup2, 1) := dk_92 (dk_at dksX4_loosen_3 7 rfl rfl)
theorem dX4_loosen_78 : decode cX4_loosen 78 = .ok (.iaload, 1) := dk_46 (dk_at dksX4_loosen_3 8 rfl rfl)
theorem dX4_loosen_79 : decode cX4_loosen 79 = .ok (.iconst 1, 1) := dk_4 (dk_at dksX4_loosen_3 9 rfl rfl)
theorem dX4_loosen_80 : decode cX4_loosen 80 = .ok (.isub, 1) := dk_100 (dk_at dksX4_loosen_3 10 rfl rfl)
theorem dX4_loosen_81 : decode cX4_loosen 81 = .ok (.iastore, 1) := dk_79 (dk_at dksX4_loosen_3 11 rfl rfl)
theorem dX4_loosen_82 : decode cX4_loosen 82 = .ok (.aload_n 0, 1) := dk_42 (dk_at dksX4_loosen_3 12 rfl rfl)
theorem dX4_loosen_83 : decode cX4_loosen 83 = .ok (.iload_n 1, 1) := dk_27 (dk_at dksX4_loosen_3 13 rfl rfl)
theorem dX4_loosen_84 : decode cX4_loosen 84 = .ok (.iload_n 2, 1) := dk_28 (dk_at dksX4_loosen_3 14 rfl rfl)
theorem dX4_loosen_85 : decode cX4_loosen 85 = .ok (.iconst 1, 1) := dk_4 (dk_at dksX4_loosen_3 15 rfl rfl)
theorem dX4_loosen_86 : decode cX4_loosen 86 = .ok (.iconst 1, 1) := dk_4 (dk_at dksX4_loosen_3 16 rfl rfl)
theorem dX4_loosen_87 : decode cX4_loosen 87 = .ok (.invokevirtual 448, 3) := dk_182 1 192 (dk_at dksX4_loosen_3 17 rfl rfl)
theorem dX4_loosen_90 : decode cX4_loosen 90 = .ok (.return_, 1) := dk_177 (dk_at dksX4_loosen_3 20 rfl rfl)
abbrev cX4_growths : ByteArray := prog_22_method_55_code
def yX4_growths : MethodName := ⟨RX4, "growths", "()I"⟩
def dkwX4_growths_1 : List UInt8 := [167, 255, 237, 27, 172]
abbrev dktX4_growths_1 : List UInt8 := dkwX4_growths_1 ++ []
def dkwX4_growths_0 : List UInt8 := [3, 60, 3, 61, 28, 42, 182, 1, 142, 162, 0, 17, 27, 42, 28, 182, 1, 164, 96, 60, 132, 2, 1]
abbrev dktX4_growths_0 : List UInt8 := dkwX4_growths_0 ++ dktX4_growths_1
theorem dksX4_growths_0 : cX4_growths.data.toList.drop 0 = dktX4_growths_0 := by decide +kernel
theorem dksX4_growths_1 : cX4_growths.data.toList.drop 23 = dktX4_growths_1 := dk_seg dksX4_growths_0 23 rfl rfl
theorem dX4_growths_0 : decode cX4_growths 0 = .ok (.iconst 0, 1) := dk_3 (dk_at dksX4_growths_0 0 rfl rfl)
theorem dX4_growths_1 : decode cX4_growths 1 = .ok (.istore_n 1, 1) := dk_60 (dk_at dksX4_growths_0 1 rfl rfl)
theorem dX4_growths_2 : decode cX4_growths 2 = .ok (.iconst 0, 1) := dk_3 (dk_at dksX4_growths_0 2 rfl rfl)
theorem dX4_growths_3 : decode cX4_growths 3 = .ok (.istore_n 2, 1) := dk_61 (dk_at dksX4_growths_0 3 rfl rfl)
theorem dX4_growths_4 : decode cX4_growths 4 = .ok (.iload_n 2, 1) := dk_28 (dk_at dksX4_growths_0 4 rfl rfl)
theorem dX4_growths_5 : decode cX4_growths 5 = .ok (.aload_n 0, 1) := dk_42 (dk_at dksX4_growths_0 5 rfl rfl)
theorem dX4_growths_6 : decode cX4_growths 6 = .ok (.invokevirtual 398, 3) := dk_182 1 142 (dk_at dksX4_growths_0 6 rfl rfl)
theorem dX4_growths_9 : decode cX4_growths 9 = .ok (.if_icmp .ge 17, 3) := dk_162 0 17 (dk_at dksX4_growths_0 9 rfl rfl)
theorem dX4_growths_12 : decode cX4_growths 12 = .ok (.iload_n 1, 1) := dk_27 (dk_at dksX4_growths_0 12 rfl rfl)
theorem dX4_growths_13 : decode cX4_growths 13 = .ok (.aload_n 0, 1) := dk_42 (dk_at dksX4_growths_0 13 rfl rfl)
theorem dX4_growths_14 : decode cX4_growths 14 = .ok (.iload_n 2, 1) := dk_28 (dk_at dksX4_growths_0 14 rfl rfl)
theorem dX4_growths_15 : decode cX4_growths 15 = .ok (.invokevirtual 420, 3) := dk_182 1 164 (dk_at dksX4_growths_0 15 rfl rfl)
theorem dX4_growths_18 : decode cX4_growths 18 = .ok (.iadd, 1) := dk_96 (dk_at dksX4_growths_0 18 rfl rfl)
theorem dX4_growths_19 : decode cX4_growths 19 = .ok (.istore_n 1, 1) := dk_60 (dk_at dksX4_growths_0 19 rfl rfl)
theorem dX4_growths_20 : decode cX4_growths 20 = .ok (.iinc 2 1, 3) := dk_132 2 1 (dk_at dksX4_growths_0 20 rfl rfl)
theorem dX4_growths_23 : decode cX4_growths 23 = .ok (.goto (-19), 3) := dk_167 255 237 (dk_at dksX4_growths_1 0 rfl rfl)
theorem dX4_growths_26 : decode cX4_growths 26 = .ok (.iload_n 1, 1) := dk_27 (dk_at dksX4_growths_1 3 rfl rfl)
theorem dX4_growths_27 : decode cX4_growths 27 = .ok (.ireturn, 1) := dk_172 (dk_at dksX4_growths_1 4 rfl rfl)
abbrev cX4_undo : ByteArray := prog_22_method_74_code
def yX4_undo : MethodName := ⟨RX4, "undo", "()Z"⟩
def dkwX4_undo_1 : List UInt8 := [4, 96, 181, 1, 152, 42, 182, 1, 216, 4, 172]
abbrev dktX4_undo_1 : List UInt8 := dkwX4_undo_1 ++ []
def dkwX4_undo_0 : List UInt8 := [42, 180, 1, 149, 154, 0, 5, 3, 172, 42, 89, 180, 1, 149, 4, 100, 181, 1, 149, 42, 89, 180, 1, 152]
abbrev dktX4_undo_0 : List UInt8 := dkwX4_undo_0 ++ dktX4_undo_1
theorem dksX4_undo_0 : cX4_undo.data.toList.drop 0 = dktX4_undo_0 := by decide +kernel
theorem dksX4_undo_1 : cX4_undo.data.toList.drop 24 = dktX4_undo_1 := dk_seg dksX4_undo_0 24 rfl rfl
theorem dX4_undo_0 : decode cX4_undo 0 = .ok (.aload_n 0, 1) := dk_42 (dk_at dksX4_undo_0 0 rfl rfl)
theorem dX4_undo_1 : decode cX4_undo 1 = .ok (.getfield 405, 3) := dk_180 1 149 (dk_at dksX4_undo_0 1 rfl rfl)
theorem dX4_undo_4 : decode cX4_undo 4 = .ok (.ifCond .ne 5, 3) := dk_154 0 5 (dk_at dksX4_undo_0 4 rfl rfl)
theorem dX4_undo_7 : decode cX4_undo 7 = .ok (.iconst 0, 1) := dk_3 (dk_at dksX4_undo_0 7 rfl rfl)
theorem dX4_undo_8 : decode cX4_undo 8 = .ok (.ireturn, 1) := dk_172 (dk_at dksX4_undo_0 8 rfl rfl)
theorem dX4_undo_9 : decode cX4_undo 9 = .ok (.aload_n 0, 1) := dk_42 (dk_at dksX4_undo_0 9 rfl rfl)
theorem dX4_undo_10 : decode cX4_undo 10 = .ok (.dup, 1) := dk_89 (dk_at dksX4_undo_0 10 rfl rfl)
theorem dX4_undo_11 : decode cX4_undo 11 = .ok (.getfield 405, 3) := dk_180 1 149 (dk_at dksX4_undo_0 11 rfl rfl)
theorem dX4_undo_14 : decode cX4_undo 14 = .ok (.iconst 1, 1) := dk_4 (dk_at dksX4_undo_0 14 rfl rfl)
theorem dX4_undo_15 : decode cX4_undo 15 = .ok (.isub, 1) := dk_100 (dk_at dksX4_undo_0 15 rfl rfl)
theorem dX4_undo_16 : decode cX4_undo 16 = .ok (.putfield 405, 3) := dk_181 1 149 (dk_at dksX4_undo_0 16 rfl rfl)
theorem dX4_undo_19 : decode cX4_undo 19 = .ok (.aload_n 0, 1) := dk_42 (dk_at dksX4_undo_0 19 rfl rfl)
theorem dX4_undo_20 : decode cX4_undo 20 = .ok (.dup, 1) := dk_89 (dk_at dksX4_undo_0 20 rfl rfl)
theorem dX4_undo_21 : decode cX4_undo 21 = .ok (.getfield 408, 3) := dk_180 1 152 (dk_at dksX4_undo_0 21 rfl rfl)
theorem dX4_undo_24 : decode cX4_undo 24 = .ok (.iconst 1, 1) := dk_4 (dk_at dksX4_undo_1 0 rfl rfl)
theorem dX4_undo_25 : decode cX4_undo 25 = .ok (.iadd, 1) := dk_96 (dk_at dksX4_undo_1 1 rfl rfl)
theorem dX4_undo_26 : decode cX4_undo 26 = .ok (.putfield 408, 3) := dk_181 1 152 (dk_at dksX4_undo_1 2 rfl rfl)
theorem dX4_undo_29 : decode cX4_undo 29 = .ok (.aload_n 0, 1) := dk_42 (dk_at dksX4_undo_1 5 rfl rfl)
theorem dX4_undo_30 : decode cX4_undo 30 = .ok (.invokevirtual 472, 3) := dk_182 1 216 (dk_at dksX4_undo_1 6 rfl rfl)
theorem dX4_undo_33 : decode cX4_undo 33 = .ok (.iconst 1, 1) := dk_4 (dk_at dksX4_undo_1 9 rfl rfl)
theorem dX4_undo_34 : decode cX4_undo 34 = .ok (.ireturn, 1) := dk_172 (dk_at dksX4_undo_1 10 rfl rfl)
abbrev cX4_exchange : ByteArray := prog_22_method_66_code
def yX4_exchange : MethodName := ⟨RX4, "exchange", "()V"⟩
def dkwX4_exchange_2 : List UInt8 := [28, 79, 132, 1, 1, 167, 255, 205, 177]
abbrev dktX4_exchange_2 : List UInt8 := dkwX4_exchange_2 ++ []
def dkwX4_exchange_1 : List UInt8 := [180, 0, 116, 16, 42, 42, 180, 1, 149, 104, 27, 96, 42, 180, 0, 113, 27, 46, 79, 42, 180, 0, 113, 27]
abbrev dktX4_exchange_1 : List UInt8 := dkwX4_exchange_1 ++ dktX4_exchange_2
def dkwX4_exchange_0 : List UInt8 := [3, 60, 27, 16, 42, 162, 0, 51, 42, 180, 0, 116, 16, 42, 42, 180, 1, 149, 104, 27, 96, 46, 61, 42]
abbrev dktX4_exchange_0 : List UInt8 := dkwX4_exchange_0 ++ dktX4_exchange_1
theorem dksX4_exchange_0 : cX4_exchange.data.toList.drop 0 = dktX4_exchange_0 := by decide +kernel
theorem dksX4_exchange_1 : cX4_exchange.data.toList.drop 24 = dktX4_exchange_1 := dk_seg dksX4_exchange_0 24 rfl rfl
theorem dksX4_exchange_2 : cX4_exchange.data.toList.drop 48 = dktX4_exchange_2 := dk_seg dksX4_exchange_1 24 rfl rfl
theorem dX4_exchange_0 : decode cX4_exchange 0 = .ok (.iconst 0, 1) := dk_3 (dk_at dksX4_exchange_0 0 rfl rfl)
theorem dX4_exchange_1 : decode cX4_exchange 1 = .ok (.istore_n 1, 1) := dk_60 (dk_at dksX4_exchange_0 1 rfl rfl)
theorem dX4_exchange_2 : decode cX4_exchange 2 = .ok (.iload_n 1, 1) := dk_27 (dk_at dksX4_exchange_0 2 rfl rfl)
theorem dX4_exchange_3 : decode cX4_exchange 3 = .ok (.bipush 42, 2) := dk_16 42 (dk_at dksX4_exchange_0 3 rfl rfl)
theorem dX4_exchange_5 : decode cX4_exchange 5 = .ok (.if_icmp .ge 51, 3) := dk_162 0 51 (dk_at dksX4_exchange_0 5 rfl rfl)
theorem dX4_exchange_8 : decode cX4_exchange 8 = .ok (.aload_n 0, 1) := dk_42 (dk_at dksX4_exchange_0 8 rfl rfl)
theorem dX4_exchange_9 : decode cX4_exchange 9 = .ok (.getfield 116, 3) := dk_180 0 116 (dk_at dksX4_exchange_0 9 rfl rfl)
theorem dX4_exchange_12 : decode cX4_exchange 12 = .ok (.bipush 42, 2) := dk_16 42 (dk_at dksX4_exchange_0 12 rfl rfl)
theorem dX4_exchange_14 : decode cX4_exchange 14 = .ok (.aload_n 0, 1) := dk_42 (dk_at dksX4_exchange_0 14 rfl rfl)
theorem dX4_exchange_15 : decode cX4_exchange 15 = .ok (.getfield 405, 3) := dk_180 1 149 (dk_at dksX4_exchange_0 15 rfl rfl)
theorem dX4_exchange_18 : decode cX4_exchange 18 = .ok (.imul, 1) := dk_104 (dk_at dksX4_exchange_0 18 rfl rfl)
theorem dX4_exchange_19 : decode cX4_exchange 19 = .ok (.iload_n 1, 1) := dk_27 (dk_at dksX4_exchange_0 19 rfl rfl)
theorem dX4_exchange_20 : decode cX4_exchange 20 = .ok (.iadd, 1) := dk_96 (dk_at dksX4_exchange_0 20 rfl rfl)
theorem dX4_exchange_21 : decode cX4_exchange 21 = .ok (.iaload, 1) := dk_46 (dk_at dksX4_exchange_0 21 rfl rfl)
theorem dX4_exchange_22 : decode cX4_exchange 22 = .ok (.istore_n 2, 1) := dk_61 (dk_at dksX4_exchange_0 22 rfl rfl)
theorem dX4_exchange_23 : decode cX4_exchange 23 = .ok (.aload_n 0, 1) := dk_42 (dk_at dksX4_exchange_0 23 rfl rfl)
theorem dX4_exchange_24 : decode cX4_exchange 24 = .ok (.getfield 116, 3) := dk_180 0 116 (dk_at dksX4_exchange_1 0 rfl rfl)
theorem dX4_exchange_27 : decode cX4_exchange 27 = .ok (.bipush 42, 2) := dk_16 42 (dk_at dksX4_exchange_1 3 rfl rfl)
theorem dX4_exchange_29 : decode cX4_exchange 29 = .ok (.aload_n 0, 1) := dk_42 (dk_at dksX4_exchange_1 5 rfl rfl)
theorem dX4_exchange_30 : decode cX4_exchange 30 = .ok (.getfield 405, 3) := dk_180 1 149 (dk_at dksX4_exchange_1 6 rfl rfl)
theorem dX4_exchange_33 : decode cX4_exchange 33 = .ok (.imul, 1) := dk_104 (dk_at dksX4_exchange_1 9 rfl rfl)
theorem dX4_exchange_34 : decode cX4_exchange 34 = .ok (.iload_n 1, 1) := dk_27 (dk_at dksX4_exchange_1 10 rfl rfl)
theorem dX4_exchange_35 : decode cX4_exchange 35 = .ok (.iadd, 1) := dk_96 (dk_at dksX4_exchange_1 11 rfl rfl)
theorem dX4_exchange_36 : decode cX4_exchange 36 = .ok (.aload_n 0, 1) := dk_42 (dk_at dksX4_exchange_1 12 rfl rfl)
theorem dX4_exchange_37 : decode cX4_exchange 37 = .ok (.getfield 113, 3) := dk_180 0 113 (dk_at dksX4_exchange_1 13 rfl rfl)
theorem dX4_exchange_40 : decode cX4_exchange 40 = .ok (.iload_n 1, 1) := dk_27 (dk_at dksX4_exchange_1 16 rfl rfl)
theorem dX4_exchange_41 : decode cX4_exchange 41 = .ok (.iaload, 1) := dk_46 (dk_at dksX4_exchange_1 17 rfl rfl)
theorem dX4_exchange_42 : decode cX4_exchange 42 = .ok (.iastore, 1) := dk_79 (dk_at dksX4_exchange_1 18 rfl rfl)
theorem dX4_exchange_43 : decode cX4_exchange 43 = .ok (.aload_n 0, 1) := dk_42 (dk_at dksX4_exchange_1 19 rfl rfl)
theorem dX4_exchange_44 : decode cX4_exchange 44 = .ok (.getfield 113, 3) := dk_180 0 113 (dk_at dksX4_exchange_1 20 rfl rfl)
theorem dX4_exchange_47 : decode cX4_exchange 47 = .ok (.iload_n 1, 1) := dk_27 (dk_at dksX4_exchange_1 23 rfl rfl)
theorem dX4_exchange_48 : decode cX4_exchange 48 = .ok (.iload_n 2, 1) := dk_28 (dk_at dksX4_exchange_2 0 rfl rfl)
theorem dX4_exchange_49 : decode cX4_exchange 49 = .ok (.iastore, 1) := dk_79 (dk_at dksX4_exchange_2 1 rfl rfl)
theorem dX4_exchange_50 : decode cX4_exchange 50 = .ok (.iinc 1 1, 3) := dk_132 1 1 (dk_at dksX4_exchange_2 2 rfl rfl)
theorem dX4_exchange_53 : decode cX4_exchange 53 = .ok (.goto (-51), 3) := dk_167 255 205 (dk_at dksX4_exchange_2 5 rfl rfl)
theorem dX4_exchange_56 : decode cX4_exchange 56 = .ok (.return_, 1) := dk_177 (dk_at dksX4_exchange_2 8 rfl rfl)
abbrev cX4_redo : ByteArray := prog_22_method_75_code
def yX4_redo : MethodName := ⟨RX4, "redo", "()Z"⟩
def dkwX4_redo_1 : List UInt8 := [89, 180, 1, 152, 4, 100, 181, 1, 152, 4, 172]
abbrev dktX4_redo_1 : List UInt8 := dkwX4_redo_1 ++ []
def dkwX4_redo_0 : List UInt8 := [42, 180, 1, 152, 154, 0, 5, 3, 172, 42, 182, 1, 216, 42, 89, 180, 1, 149, 4, 96, 181, 1, 149, 42]
abbrev dktX4_redo_0 : List UInt8 := dkwX4_redo_0 ++ dktX4_redo_1
theorem dksX4_redo_0 : cX4_redo.data.toList.drop 0 = dktX4_redo_0 := by decide +kernel
theorem dksX4_redo_1 : cX4_redo.data.toList.drop 24 = dktX4_redo_1 := dk_seg dksX4_redo_0 24 rfl rfl
theorem dX4_redo_0 : decode cX4_redo 0 = .ok (.aload_n 0, 1) := dk_42 (dk_at dksX4_redo_0 0 rfl rfl)
theorem dX4_redo_1 : decode cX4_redo 1 = .ok (.getfield 408, 3) := dk_180 1 152 (dk_at dksX4_redo_0 1 rfl rfl)
theorem dX4_redo_4 : decode cX4_redo 4 = .ok (.ifCond .ne 5, 3) := dk_154 0 5 (dk_at dksX4_redo_0 4 rfl rfl)
theorem dX4_redo_7 : decode cX4_redo 7 = .ok (.iconst 0, 1) := dk_3 (dk_at dksX4_redo_0 7 rfl rfl)
theorem dX4_redo_8 : decode cX4_redo 8 = .ok (.ireturn, 1) := dk_172 (dk_at dksX4_redo_0 8 rfl rfl)
theorem dX4_redo_9 : decode cX4_redo 9 = .ok (.aload_n 0, 1) := dk_42 (dk_at dksX4_redo_0 9 rfl rfl)
theorem dX4_redo_10 : decode cX4_redo 10 = .ok (.invokevirtual 472, 3) := dk_182 1 216 (dk_at dksX4_redo_0 10 rfl rfl)
theorem dX4_redo_13 : decode cX4_redo 13 = .ok (.aload_n 0, 1) := dk_42 (dk_at dksX4_redo_0 13 rfl rfl)
theorem dX4_redo_14 : decode cX4_redo 14 = .ok (.dup, 1) := dk_89 (dk_at dksX4_redo_0 14 rfl rfl)
theorem dX4_redo_15 : decode cX4_redo 15 = .ok (.getfield 405, 3) := dk_180 1 149 (dk_at dksX4_redo_0 15 rfl rfl)
theorem dX4_redo_18 : decode cX4_redo 18 = .ok (.iconst 1, 1) := dk_4 (dk_at dksX4_redo_0 18 rfl rfl)
theorem dX4_redo_19 : decode cX4_redo 19 = .ok (.iadd, 1) := dk_96 (dk_at dksX4_redo_0 19 rfl rfl)
theorem dX4_redo_20 : decode cX4_redo 20 = .ok (.putfield 405, 3) := dk_181 1 149 (dk_at dksX4_redo_0 20 rfl rfl)
theorem dX4_redo_23 : decode cX4_redo 23 = .ok (.aload_n 0, 1) := dk_42 (dk_at dksX4_redo_0 23 rfl rfl)
theorem dX4_redo_24 : decode cX4_redo 24 = .ok (.dup, 1) := dk_89 (dk_at dksX4_redo_1 0 rfl rfl)
theorem dX4_redo_25 : decode cX4_redo 25 = .ok (.getfield 408, 3) := dk_180 1 152 (dk_at dksX4_redo_1 1 rfl rfl)
theorem dX4_redo_28 : decode cX4_redo 28 = .ok (.iconst 1, 1) := dk_4 (dk_at dksX4_redo_1 4 rfl rfl)
theorem dX4_redo_29 : decode cX4_redo 29 = .ok (.isub, 1) := dk_100 (dk_at dksX4_redo_1 5 rfl rfl)
theorem dX4_redo_30 : decode cX4_redo 30 = .ok (.putfield 408, 3) := dk_181 1 152 (dk_at dksX4_redo_1 6 rfl rfl)
theorem dX4_redo_33 : decode cX4_redo 33 = .ok (.iconst 1, 1) := dk_4 (dk_at dksX4_redo_1 9 rfl rfl)
theorem dX4_redo_34 : decode cX4_redo 34 = .ok (.ireturn, 1) := dk_172 (dk_at dksX4_redo_1 10 rfl rfl)
abbrev cX4_lies : ByteArray := prog_22_method_76_code
def yX4_lies : MethodName := ⟨RX4, "lies", "(I)I"⟩
def dkwX4_lies_1 : List UInt8 := [172]
abbrev dktX4_lies_1 : List UInt8 := dkwX4_lies_1 ++ []
def dkwX4_lies_0 : List UInt8 := [27, 3, 42, 180, 1, 158, 4, 100, 184, 1, 145, 153, 0, 12, 42, 180, 0, 125, 27, 46, 167, 0, 4, 2]
abbrev dktX4_lies_0 : List UInt8 := dkwX4_lies_0 ++ dktX4_lies_1
theorem dksX4_lies_0 : cX4_lies.data.toList.drop 0 = dktX4_lies_0 := by decide +kernel
theorem dksX4_lies_1 : cX4_lies.data.toList.drop 24 = dktX4_lies_1 := dk_seg dksX4_lies_0 24 rfl rfl
theorem dX4_lies_0 : decode cX4_lies 0 = .ok (.iload_n 1, 1) := dk_27 (dk_at dksX4_lies_0 0 rfl rfl)
theorem dX4_lies_1 : decode cX4_lies 1 = .ok (.iconst 0, 1) := dk_3 (dk_at dksX4_lies_0 1 rfl rfl)
theorem dX4_lies_2 : decode cX4_lies 2 = .ok (.aload_n 0, 1) := dk_42 (dk_at dksX4_lies_0 2 rfl rfl)
theorem dX4_lies_3 : decode cX4_lies 3 = .ok (.getfield 414, 3) := dk_180 1 158 (dk_at dksX4_lies_0 3 rfl rfl)
theorem dX4_lies_6 : decode cX4_lies 6 = .ok (.iconst 1, 1) := dk_4 (dk_at dksX4_lies_0 6 rfl rfl)
theorem dX4_lies_7 : decode cX4_lies 7 = .ok (.isub, 1) := dk_100 (dk_at dksX4_lies_0 7 rfl rfl)
theorem dX4_lies_8 : decode cX4_lies 8 = .ok (.invokestatic 401, 3) := dk_184 1 145 (dk_at dksX4_lies_0 8 rfl rfl)
theorem dX4_lies_11 : decode cX4_lies 11 = .ok (.ifCond .eq 12, 3) := dk_153 0 12 (dk_at dksX4_lies_0 11 rfl rfl)
theorem dX4_lies_14 : decode cX4_lies 14 = .ok (.aload_n 0, 1) := dk_42 (dk_at dksX4_lies_0 14 rfl rfl)
theorem dX4_lies_15 : decode cX4_lies 15 = .ok (.getfield 125, 3) := dk_180 0 125 (dk_at dksX4_lies_0 15 rfl rfl)
theorem dX4_lies_18 : decode cX4_lies 18 = .ok (.iload_n 1, 1) := dk_27 (dk_at dksX4_lies_0 18 rfl rfl)
theorem dX4_lies_19 : decode cX4_lies 19 = .ok (.iaload, 1) := dk_46 (dk_at dksX4_lies_0 19 rfl rfl)
theorem dX4_lies_20 : decode cX4_lies 20 = .ok (.goto 4, 3) := dk_167 0 4 (dk_at dksX4_lies_0 20 rfl rfl)
theorem dX4_lies_23 : decode cX4_lies 23 = .ok (.iconst (-1), 1) := dk_2 (dk_at dksX4_lies_0 23 rfl rfl)
theorem dX4_lies_24 : decode cX4_lies 24 = .ok (.ireturn, 1) := dk_172 (dk_at dksX4_lies_1 0 rfl rfl)
abbrev cX4_best : ByteArray := prog_22_method_84_code
def yX4_best : MethodName := ⟨RX4, "best", "(II)I"⟩
def dkwX4_best_1 : List UInt8 := [19, 1, 173, 172, 42, 27, 3, 182, 1, 242, 42, 28, 182, 1, 245, 172]
abbrev dktX4_best_1 : List UInt8 := dkwX4_best_1 ++ []
def dkwX4_best_0 : List UInt8 := [42, 3, 181, 1, 158, 42, 27, 182, 1, 170, 153, 0, 12, 28, 3, 4, 184, 1, 145, 154, 0, 7]
abbrev dktX4_best_0 : List UInt8 := dkwX4_best_0 ++ dktX4_best_1
theorem dksX4_best_0 : cX4_best.data.toList.drop 0 = dktX4_best_0 := by decide +kernel
theorem dksX4_best_1 : cX4_best.data.toList.drop 22 = dktX4_best_1 := dk_seg dksX4_best_0 22 rfl rfl
theorem dX4_best_0 : decode cX4_best 0 = .ok (.aload_n 0, 1) := dk_42 (dk_at dksX4_best_0 0 rfl rfl)
theorem dX4_best_1 : decode cX4_best 1 = .ok (.iconst 0, 1) := dk_3 (dk_at dksX4_best_0 1 rfl rfl)
theorem dX4_best_2 : decode cX4_best 2 = .ok (.putfield 414, 3) := dk_181 1 158 (dk_at dksX4_best_0 2 rfl rfl)
theorem dX4_best_5 : decode cX4_best 5 = .ok (.aload_n 0, 1) := dk_42 (dk_at dksX4_best_0 5 rfl rfl)
theorem dX4_best_6 : decode cX4_best 6 = .ok (.iload_n 1, 1) := dk_27 (dk_at dksX4_best_0 6 rfl rfl)
theorem dX4_best_7 : decode cX4_best 7 = .ok (.invokevirtual 426, 3) := dk_182 1 170 (dk_at dksX4_best_0 7 rfl rfl)
theorem dX4_best_10 : decode cX4_best 10 = .ok (.ifCond .eq 12, 3) := dk_153 0 12 (dk_at dksX4_best_0 10 rfl rfl)
theorem dX4_best_13 : decode cX4_best 13 = .ok (.iload_n 2, 1) := dk_28 (dk_at dksX4_best_0 13 rfl rfl)
theorem dX4_best_14 : decode cX4_best 14 = .ok (.iconst 0, 1) := dk_3 (dk_at dksX4_best_0 14 rfl rfl)
theorem dX4_best_15 : decode cX4_best 15 = .ok (.iconst 1, 1) := dk_4 (dk_at dksX4_best_0 15 rfl rfl)
theorem dX4_best_16 : decode cX4_best 16 = .ok (.invokestatic 401, 3) := dk_184 1 145 (dk_at dksX4_best_0 16 rfl rfl)
theorem dX4_best_19 : decode cX4_best 19 = .ok (.ifCond .ne 7, 3) := dk_154 0 7 (dk_at dksX4_best_0 19 rfl rfl)
theorem dX4_best_22 : decode cX4_best 22 = .ok (.ldc_w 429, 3) := dk_19 1 173 (dk_at dksX4_best_1 0 rfl rfl)
theorem dX4_best_25 : decode cX4_best 25 = .ok (.ireturn, 1) := dk_172 (dk_at dksX4_best_1 3 rfl rfl)
theorem dX4_best_26 : decode cX4_best 26 = .ok (.aload_n 0, 1) := dk_42 (dk_at dksX4_best_1 4 rfl rfl)
theorem dX4_best_27 : decode cX4_best 27 = .ok (.iload_n 1, 1) := dk_27 (dk_at dksX4_best_1 5 rfl rfl)
theorem dX4_best_28 : decode cX4_best 28 = .ok (.iconst 0, 1) := dk_3 (dk_at dksX4_best_1 6 rfl rfl)
theorem dX4_best_29 : decode cX4_best 29 = .ok (.invokevirtual 498, 3) := dk_182 1 242 (dk_at dksX4_best_1 7 rfl rfl)
theorem dX4_best_32 : decode cX4_best 32 = .ok (.aload_n 0, 1) := dk_42 (dk_at dksX4_best_1 10 rfl rfl)
theorem dX4_best_33 : decode cX4_best 33 = .ok (.iload_n 2, 1) := dk_28 (dk_at dksX4_best_1 11 rfl rfl)
theorem dX4_best_34 : decode cX4_best 34 = .ok (.invokevirtual 501, 3) := dk_182 1 245 (dk_at dksX4_best_1 12 rfl rfl)
theorem dX4_best_37 : decode cX4_best 37 = .ok (.ireturn, 1) := dk_172 (dk_at dksX4_best_1 15 rfl rfl)
abbrev cX4_layBest : ByteArray := prog_22_method_81_code
def yX4_layBest : MethodName := ⟨RX4, "layBest", "(II)V"⟩
def dkwX4_layBest_6 : List UInt8 := [132, 6, 1, 167, 255, 233, 42, 42, 180, 0, 128, 42, 27, 182, 1, 186, 182, 1, 234, 62, 167, 255, 111, 177]
abbrev dktX4_layBest_6 : List UInt8 := dkwX4_layBest_6 ++ []
def dkwX4_layBest_5 : List UInt8 := [3, 54, 6, 21, 6, 6, 162, 0, 23, 42, 180, 0, 122, 21, 6, 42, 180, 0, 119, 21, 6, 46, 79]
abbrev dktX4_layBest_5 : List UInt8 := dkwX4_layBest_5 ++ dktX4_layBest_6
def dkwX4_layBest_4 : List UInt8 := [160, 0, 53, 21, 5, 42, 180, 1, 225, 162, 0, 44, 42, 21, 4, 181, 1, 231, 42, 21, 5, 181, 1, 225]
abbrev dktX4_layBest_4 : List UInt8 := dkwX4_layBest_4 ++ dktX4_layBest_5
def dkwX4_layBest_3 : List UInt8 := [54, 5, 42, 180, 1, 225, 155, 0, 30, 21, 4, 42, 180, 1, 231, 163, 0, 21, 21, 4, 42, 180, 1, 231]
abbrev dktX4_layBest_3 : List UInt8 := dkwX4_layBest_3 ++ dktX4_layBest_4
def dkwX4_layBest_2 : List UInt8 := [182, 1, 228, 42, 180, 0, 119, 3, 46, 42, 180, 0, 119, 4, 46, 96, 42, 180, 0, 119, 5, 46, 96]
abbrev dktX4_layBest_2 : List UInt8 := dkwX4_layBest_2 ++ dktX4_layBest_3
def dkwX4_layBest_1 : List UInt8 := [182, 1, 228, 28, 154, 0, 11, 42, 27, 182, 1, 164, 167, 0, 7, 42, 182, 1, 210, 54, 4, 42, 27, 2]
abbrev dktX4_layBest_1 : List UInt8 := dkwX4_layBest_1 ++ dktX4_layBest_2
def dkwX4_layBest_0 : List UInt8 := [42, 27, 182, 1, 219, 42, 182, 1, 222, 4, 62, 42, 2, 181, 1, 225, 29, 153, 0, 147, 42, 27, 4]
abbrev dktX4_layBest_0 : List UInt8 := dkwX4_layBest_0 ++ dktX4_layBest_1
theorem dksX4_layBest_0 : cX4_layBest.data.toList.drop 0 = dktX4_layBest_0 := by decide +kernel
theorem dksX4_layBest_1 : cX4_layBest.data.toList.drop 23 = dktX4_layBest_1 := dk_seg dksX4_layBest_0 23 rfl rfl
theorem dksX4_layBest_2 : cX4_layBest.data.toList.drop 47 = dktX4_layBest_2 := dk_seg dksX4_layBest_1 24 rfl rfl
theorem dksX4_layBest_3 : cX4_layBest.data.toList.drop 70 = dktX4_layBest_3 := dk_seg dksX4_layBest_2 23 rfl rfl
theorem dksX4_layBest_4 : cX4_layBest.data.toList.drop 94 = dktX4_layBest_4 := dk_seg dksX4_layBest_3 24 rfl rfl
theorem dksX4_layBest_5 : cX4_layBest.data.toList.drop 118 = dktX4_layBest_5 := dk_seg dksX4_layBest_4 24 rfl rfl
theorem dksX4_layBest_6 : cX4_layBest.data.toList.drop 141 = dktX4_layBest_6 := dk_seg dksX4_layBest_5 23 rfl rfl
theorem dX4_layBest_0 : decode cX4_layBest 0 = .ok (.aload_n 0, 1) := dk_42 (dk_at dksX4_layBest_0 0 rfl rfl)
theorem dX4_layBest_1 : decode cX4_layBest 1 = .ok (.iload_n 1, 1) := dk_27 (dk_at dksX4_layBest_0 1 rfl rfl)
theorem dX4_layBest_2 : decode cX4_layBest 2 = .ok (.invokevirtual 475, 3) := dk_182 1 219 (dk_at dksX4_layBest_0 2 rfl rfl)
theorem dX4_layBest_5 : decode cX4_layBest 5 = .ok (.aload_n 0, 1) := dk_42 (dk_at dksX4_layBest_0 5 rfl rfl)
theorem dX4_layBest_6 : decode cX4_layBest 6 = .ok (.invokevirtual 478, 3) := dk_182 1 222 (dk_at dksX4_layBest_0 6 rfl rfl)
theorem dX4_layBest_9 : decode cX4_layBest 9 = .ok (.iconst 1, 1) := dk_4 (dk_at dksX4_layBest_0 9 rfl rfl)
theorem dX4_layBest_10 : decode cX4_layBest 10 = .ok (.istore_n 3, 1) := dk_62 (dk_at dksX4_layBest_0 10 rfl rfl)
theorem dX4_layBest_11 : decode cX4_layBest 11 = .ok (.aload_n 0, 1) := dk_42 (dk_at dksX4_layBest_0 11 rfl rfl)
theorem dX4_layBest_12 : decode cX4_layBest 12 = .ok (.iconst (-1), 1) := dk_2 (dk_at dksX4_layBest_0 12 rfl rfl)
theorem dX4_layBest_13 : decode cX4_layBest 13 = .ok (.putfield 481, 3) := dk_181 1 225 (dk_at dksX4_layBest_0 13 rfl rfl)
theorem dX4_layBest_16 : decode cX4_layBest 16 = .ok (.iload_n 3, 1) := dk_29 (dk_at dksX4_layBest_0 16 rfl rfl)
theorem dX4_layBest_17 : decode cX4_layBest 17 = .ok (.ifCond .eq 147, 3) := dk_153 0 147 (dk_at dksX4_layBest_0 17 rfl rfl)
theorem dX4_layBest_20 : decode cX4_layBest 20 = .ok (.aload_n 0, 1) := dk_42 (dk_at dksX4_layBest_0 20 rfl rfl)
theorem dX4_layBest_21 : decode cX4_layBest 21 = .ok (.iload_n 1, 1) := dk_27 (dk_at dksX4_layBest_0 21 rfl rfl)
theorem dX4_layBest_22 : decode cX4_layBest 22 = .ok (.iconst 1, 1) := dk_4 (dk_at dksX4_layBest_0 22 rfl rfl)
theorem dX4_layBest_23 : decode cX4_layBest 23 = .ok (.invokevirtual 484, 3) := dk_182 1 228 (dk_at dksX4_layBest_1 0 rfl rfl)
theorem dX4_layBest_26 : decode cX4_layBest 26 = .ok (.iload_n 2, 1) := dk_28 (dk_at dksX4_layBest_1 3 rfl rfl)
theorem dX4_layBest_27 : decode cX4_layBest 27 = .ok (.ifCond .ne 11, 3) := dk_154 0 11 (dk_at dksX4_layBest_1 4 rfl rfl)
theorem dX4_layBest_30 : decode cX4_layBest 30 = .ok (.aload_n 0, 1) := dk_42 (dk_at dksX4_layBest_1 7 rfl rfl)
theorem dX4_layBest_31 : decode cX4_layBest 31 = .ok (.iload_n 1, 1) := dk_27 (dk_at dksX4_layBest_1 8 rfl rfl)
theorem dX4_layBest_32 : decode cX4_layBest 32 = .ok (.invokevirtual 420, 3) := dk_182 1 164 (dk_at dksX4_layBest_1 9 rfl rfl)
theorem dX4_layBest_35 : decode cX4_layBest 35 = .ok (.goto 7, 3) := dk_167 0 7 (dk_at dksX4_layBest_1 12 rfl rfl)
theorem dX4_layBest_38 : decode cX4_layBest 38 = .ok (.aload_n 0, 1) := dk_42 (dk_at dksX4_layBest_1 15 rfl rfl)
theorem dX4_layBest_39 : decode cX4_layBest 39 = .ok (.invokevirtual 466, 3) := dk_182 1 210 (dk_at dksX4_layBest_1 16 rfl rfl)
theorem dX4_layBest_42 : decode cX4_layBest 42 = .ok (.istore 4, 2) := dk_54 4 (dk_at dksX4_layBest_1 19 rfl rfl)
theorem dX4_layBest_44 : decode cX4_layBest 44 = .ok (.aload_n 0, 1) := dk_42 (dk_at dksX4_layBest_1 21 rfl rfl)
theorem dX4_layBest_45 : decode cX4_layBest 45 = .ok (.iload_n 1, 1) := dk_27 (dk_at dksX4_layBest_1 22 rfl rfl)
theorem dX4_layBest_46 : decode cX4_layBest 46 = .ok (.iconst (-1), 1) := dk_2 (dk_at dksX4_layBest_1 23 rfl rfl)
theorem dX4_layBest_47 : decode cX4_layBest 47 = .ok (.invokevirtual 484, 3) := dk_182 1 228 (dk_at dksX4_layBest_2 0 rfl rfl)
theorem dX4_layBest_50 : decode cX4_layBest 50 = .ok (.aload_n 0, 1) := dk_42 (dk_at dksX4_layBest_2 3 rfl rfl)
theorem dX4_layBest_51 : decode cX4_layBest 51 = .ok (.getfield 119, 3) := dk_180 0 119 (dk_at dksX4_layBest_2 4 rfl rfl)
theorem dX4_layBest_54 : decode cX4_layBest 54 = .ok (.iconst 0, 1) := dk_3 (dk_at dksX4_layBest_2 7 rfl rfl)
theorem dX4_layBest_55 : decode cX4_layBest 55 = .ok (.iaload, 1) := dk_46 (dk_at dksX4_layBest_2 8 rfl rfl)
theorem dX4_layBest_56 : decode cX4_layBest 56 = .ok (.aload_n 0, 1) := dk_42 (dk_at dksX4_layBest_2 9 rfl rfl)
theorem dX4_layBest_57 : decode cX4_layBest 57 = .ok (.getfield 119, 3) := dk_180 0 119 (dk_at dksX4_layBest_2 10 rfl rfl)
theorem dX4_layBest_60 : decode cX4_layBest 60 = .ok (.iconst 1, 1) := dk_4 (dk_at dksX4_layBest_2 13 rfl rfl)
theorem dX4_layBest_61 : decode cX4_layBest 61 = .ok (.iaload, 1) := dk_46 (dk_at dksX4_layBest_2 14 rfl rfl)
theorem dX4_layBest_62 : decode cX4_layBest 62 = .ok (.iadd, 1) := dk_96 (dk_at dksX4_layBest_2 15 rfl rfl)
theorem dX4_layBest_63 : decode cX4_layBest 63 = .ok (.aload_n 0, 1) := dk_42 (dk_at dksX4_layBest_2 16 rfl rfl)
theorem dX4_layBest_64 : decode cX4_layBest 64 = .ok (.getfield 119, 3) := dk_180 0 119 (dk_at dksX4_layBest_2 17 rfl rfl)
theorem dX4_layBest_67 : decode cX4_layBest 67 = .ok (.iconst 2, 1) := dk_5 (dk_at dksX4_layBest_2 20 rfl rfl)
theorem dX4_layBest_68 : decode cX4_layBest 68 = .ok (.iaload, 1) := dk_46 (dk_at dksX4_layBest_2 21 rfl rfl)
theorem dX4_layBest_69 : decode cX4_layBest 69 = .ok (.iadd, 1) := dk_96 (dk_at dksX4_layBest_2 22 rfl rfl)
theorem dX4_layBest_70 : decode cX4_layBest 70 = .ok (.istore 5, 2) := dk_54 5 (dk_at dksX4_layBest_3 0 rfl rfl)
theorem dX4_layBest_72 : decode cX4_layBest 72 = .ok (.aload_n 0, 1) := dk_42 (dk_at dksX4_layBest_3 2 rfl rfl)
theorem dX4_layBest_73 : decode cX4_layBest 73 = .ok (.getfield 481, 3) := dk_180 1 225 (dk_at dksX4_layBest_3 3 rfl rfl)
theorem dX4_layBest_76 : decode cX4_layBest 76 = .ok (.ifCond .lt 30, 3) := dk_155 0 30 (dk_at dksX4_layBest_3 6 rfl rfl)
theorem dX4_layBest_79 : decode cX4_layBest 79 = .ok (.iload 4, 2) := dk_21 4 (dk_at dksX4_layBest_3 9 rfl rfl)
theorem dX4_layBest_81 : decode cX4_layBest 81 = .ok (.aload_n 0, 1) := dk_42 (dk_at dksX4_layBest_3 11 rfl rfl)
theorem dX4_layBest_82 : decode cX4_layBest 82 = .ok (.getfield 487, 3) := dk_180 1 231 (dk_at dksX4_layBest_3 12 rfl rfl)
theorem dX4_layBest_85 : decode cX4_layBest 85 = .ok (.if_icmp .gt 21, 3) := dk_163 0 21 (dk_at dksX4_layBest_3 15 rfl rfl)
theorem dX4_layBest_88 : decode cX4_layBest 88 = .ok (.iload 4, 2) := dk_21 4 (dk_at dksX4_layBest_3 18 rfl rfl)
theorem dX4_layBest_90 : decode cX4_layBest 90 = .ok (.aload_n 0, 1) := dk_42 (dk_at dksX4_layBest_3 20 rfl rfl)
theorem dX4_layBest_91 : decode cX4_layBest 91 = .ok (.getfield 487, 3) := dk_180 1 231 (dk_at dksX4_layBest_3 21 rfl rfl)
theorem dX4_layBest_94 : decode cX4_layBest 94 = .ok (.if_icmp .ne 53, 3) := dk_160 0 53 (dk_at dksX4_layBest_4 0 rfl rfl)
theorem dX4_layBest_97 : decode cX4_layBest 97 = .ok (.iload 5, 2) := dk_21 5 (dk_at dksX4_layBest_4 3 rfl rfl)
theorem dX4_layBest_99 : decode cX4_layBest 99 = .ok (.aload_n 0, 1) := dk_42 (dk_at dksX4_layBest_4 5 rfl rfl)
theorem dX4_layBest_100 : decode cX4_layBest 100 = .ok (.getfield 481, 3) := dk_180 1 225 (dk_at dksX4_layBest_4 6 rfl rfl)
theorem dX4_layBest_103 : decode cX4_layBest 103 = .ok (.if_icmp .ge 44, 3) := dk_162 0 44 (dk_at dksX4_layBest_4 9 rfl rfl)
theorem dX4_layBest_106 : decode cX4_layBest 106 = .ok (.aload_n 0, 1) := dk_42 (dk_at dksX4_layBest_4 12 rfl rfl)
theorem dX4_layBest_107 : decode cX4_layBest 107 = .ok (.iload 4, 2) := dk_21 4 (dk_at dksX4_layBest_4 13 rfl rfl)
theorem dX4_layBest_109 : decode cX4_layBest 109 = .ok (.putfield 487, 3) := dk_181 1 231 (dk_at dksX4_layBest_4 15 rfl rfl)
theorem dX4_layBest_112 : decode cX4_layBest 112 = .ok (.aload_n 0, 1) := dk_42 (dk_at dksX4_layBest_4 18 rfl rfl)
theorem dX4_layBest_113 : decode cX4_layBest 113 = .ok (.iload 5, 2) := dk_21 5 (dk_at dksX4_layBest_4 19 rfl rfl)
theorem dX4_layBest_115 : decode cX4_layBest 115 = .ok (.putfield 481, 3) := dk_181 1 225 (dk_at dksX4_layBest_4 21 rfl rfl)
theorem dX4_layBest_118 : decode cX4_layBest 118 = .ok (.iconst 0, 1) := dk_3 (dk_at dksX4_layBest_5 0 rfl rfl)
theorem dX4_layBest_119 : decode cX4_layBest 119 = .ok (.istore 6, 2) := dk_54 6 (dk_at dksX4_layBest_5 1 rfl rfl)
theorem dX4_layBest_121 : decode cX4_layBest 121 = .ok (.iload 6, 2) := dk_21 6 (dk_at dksX4_layBest_5 3 rfl rfl)
theorem dX4_layBest_123 : decode cX4_layBest 123 = .ok (.iconst 3, 1) := dk_6 (dk_at dksX4_layBest_5 5 rfl rfl)
theorem dX4_layBest_124 : decode cX4_layBest 124 = .ok (.if_icmp .ge 23, 3) := dk_162 0 23 (dk_at dksX4_layBest_5 6 rfl rfl)
theorem dX4_layBest_127 : decode cX4_layBest 127 = .ok (.aload_n 0, 1) := dk_42 (dk_at dksX4_layBest_5 9 rfl rfl)
theorem dX4_layBest_128 : decode cX4_layBest 128 = .ok (.getfield 122, 3) := dk_180 0 122 (dk_at dksX4_layBest_5 10 rfl rfl)
theorem dX4_layBest_131 : decode cX4_layBest 131 = .ok (.iload 6, 2) := dk_21 6 (dk_at dksX4_layBest_5 13 rfl rfl)
theorem dX4_layBest_133 : decode cX4_layBest 133 = .ok (.aload_n 0, 1) := dk_42 (dk_at dksX4_layBest_5 15 rfl rfl)
theorem dX4_layBest_134 : decode cX4_layBest 134 = .ok (.getfield 119, 3) := dk_180 0 119 (dk_at dksX4_layBest_5 16 rfl rfl)
theorem dX4_layBest_137 : decode cX4_layBest 137 = .ok (.iload 6, 2) := dk_21 6 (dk_at dksX4_layBest_5 19 rfl rfl)
theorem dX4_layBest_139 : decode cX4_layBest 139 = .ok (.iaload, 1) := dk_46 (dk_at dksX4_layBest_5 21 rfl rfl)
theorem dX4_layBest_140 : decode cX4_layBest 140 = .ok (.iastore, 1) := dk_79 (dk_at dksX4_layBest_5 22 rfl rfl)
theorem dX4_layBest_141 : decode cX4_layBest 141 = .ok (.iinc 6 1, 3) := dk_132 6 1 (dk_at dksX4_layBest_6 0 rfl rfl)
theorem dX4_layBest_144 : decode cX4_layBest 144 = .ok (.goto (-23), 3) := dk_167 255 233 (dk_at dksX4_layBest_6 3 rfl rfl)
theorem dX4_layBest_147 : decode cX4_layBest 147 = .ok (.aload_n 0, 1) := dk_42 (dk_at dksX4_layBest_6 6 rfl rfl)
theorem dX4_layBest_148 : decode cX4_layBest 148 = .ok (.aload_n 0, 1) := dk_42 (dk_at dksX4_layBest_6 7 rfl rfl)
theorem dX4_layBest_149 : decode cX4_layBest 149 = .ok (.getfield 128, 3) := dk_180 0 128 (dk_at dksX4_layBest_6 8 rfl rfl)
theorem dX4_layBest_152 : decode cX4_layBest 152 = .ok (.aload_n 0, 1) := dk_42 (dk_at dksX4_layBest_6 11 rfl rfl)
theorem dX4_layBest_153 : decode cX4_layBest 153 = .ok (.iload_n 1, 1) := dk_27 (dk_at dksX4_layBest_6 12 rfl rfl)
theorem dX4_layBest_154 : decode cX4_layBest 154 = .ok (.invokevirtual 442, 3) := dk_182 1 186 (dk_at dksX4_layBest_6 13 rfl rfl)
theorem dX4_layBest_157 : decode cX4_layBest 157 = .ok (.invokevirtual 490, 3) := dk_182 1 234 (dk_at dksX4_layBest_6 16 rfl rfl)
theorem dX4_layBest_160 : decode cX4_layBest 160 = .ok (.istore_n 3, 1) := dk_62 (dk_at dksX4_layBest_6 19 rfl rfl)
theorem dX4_layBest_161 : decode cX4_layBest 161 = .ok (.goto (-145), 3) := dk_167 255 111 (dk_at dksX4_layBest_6 20 rfl rfl)
theorem dX4_layBest_164 : decode cX4_layBest 164 = .ok (.return_, 1) := dk_177 (dk_at dksX4_layBest_6 23 rfl rfl)
abbrev cX4_layMost : ByteArray := prog_22_method_80_code
def yX4_layMost : MethodName := ⟨RX4, "layMost", "(I)V"⟩
def dkwX4_layMost_1 : List UInt8 := [162, 0, 12, 42, 27, 28, 182, 1, 183, 167, 0, 4, 3, 79, 132, 2, 1, 167, 255, 219, 177]
abbrev dktX4_layMost_1 : List UInt8 := dkwX4_layMost_1 ++ []
def dkwX4_layMost_0 : List UInt8 := [3, 61, 28, 6, 162, 0, 38, 42, 180, 0, 128, 28, 28, 42, 180, 0, 20, 42, 180, 1, 45, 46]
abbrev dktX4_layMost_0 : List UInt8 := dkwX4_layMost_0 ++ dktX4_layMost_1
theorem dksX4_layMost_0 : cX4_layMost.data.toList.drop 0 = dktX4_layMost_0 := by decide +kernel
theorem dksX4_layMost_1 : cX4_layMost.data.toList.drop 22 = dktX4_layMost_1 := dk_seg dksX4_layMost_0 22 rfl rfl
theorem dX4_layMost_0 : decode cX4_layMost 0 = .ok (.iconst 0, 1) := dk_3 (dk_at dksX4_layMost_0 0 rfl rfl)
theorem dX4_layMost_1 : decode cX4_layMost 1 = .ok (.istore_n 2, 1) := dk_61 (dk_at dksX4_layMost_0 1 rfl rfl)
theorem dX4_layMost_2 : decode cX4_layMost 2 = .ok (.iload_n 2, 1) := dk_28 (dk_at dksX4_layMost_0 2 rfl rfl)
theorem dX4_layMost_3 : decode cX4_layMost 3 = .ok (.iconst 3, 1) := dk_6 (dk_at dksX4_layMost_0 3 rfl rfl)
theorem dX4_layMost_4 : decode cX4_layMost 4 = .ok (.if_icmp .ge 38, 3) := dk_162 0 38 (dk_at dksX4_layMost_0 4 rfl rfl)
theorem dX4_layMost_7 : decode cX4_layMost 7 = .ok (.aload_n 0, 1) := dk_42 (dk_at dksX4_layMost_0 7 rfl rfl)
theorem dX4_layMost_8 : decode cX4_layMost 8 = .ok (.getfield 128, 3) := dk_180 0 128 (dk_at dksX4_layMost_0 8 rfl rfl)
theorem dX4_layMost_11 : decode cX4_layMost 11 = .ok (.iload_n 2, 1) := dk_28 (dk_at dksX4_layMost_0 11 rfl rfl)
theorem dX4_layMost_12 : decode cX4_layMost 12 = .ok (.iload_n 2, 1) := dk_28 (dk_at dksX4_layMost_0 12 rfl rfl)
theorem dX4_layMost_13 : decode cX4_layMost 13 = .ok (.aload_n 0, 1) := dk_42 (dk_at dksX4_layMost_0 13 rfl rfl)
theorem dX4_layMost_14 : decode cX4_layMost 14 = .ok (.getfield 20, 3) := dk_180 0 20 (dk_at dksX4_layMost_0 14 rfl rfl)
theorem dX4_layMost_17 : decode cX4_layMost 17 = .ok (.aload_n 0, 1) := dk_42 (dk_at dksX4_layMost_0 17 rfl rfl)
theorem dX4_layMost_18 : decode cX4_layMost 18 = .ok (.getfield 301, 3) := dk_180 1 45 (dk_at dksX4_layMost_0 18 rfl rfl)
theorem dX4_layMost_21 : decode cX4_layMost 21 = .ok (.iaload, 1) := dk_46 (dk_at dksX4_layMost_0 21 rfl rfl)
theorem dX4_layMost_22 : decode cX4_layMost 22 = .ok (.if_icmp .ge 12, 3) := dk_162 0 12 (dk_at dksX4_layMost_1 0 rfl rfl)
theorem dX4_layMost_25 : decode cX4_layMost 25 = .ok (.aload_n 0, 1) := dk_42 (dk_at dksX4_layMost_1 3 rfl rfl)
theorem dX4_layMost_26 : decode cX4_layMost 26 = .ok (.iload_n 1, 1) := dk_27 (dk_at dksX4_layMost_1 4 rfl rfl)
theorem dX4_layMost_27 : decode cX4_layMost 27 = .ok (.iload_n 2, 1) := dk_28 (dk_at dksX4_layMost_1 5 rfl rfl)
theorem dX4_layMost_28 : decode cX4_layMost 28 = .ok (.invokevirtual 439, 3) := dk_182 1 183 (dk_at dksX4_layMost_1 6 rfl rfl)
theorem dX4_layMost_31 : decode cX4_layMost 31 = .ok (.goto 4, 3) := dk_167 0 4 (dk_at dksX4_layMost_1 9 rfl rfl)
theorem dX4_layMost_34 : decode cX4_layMost 34 = .ok (.iconst 0, 1) := dk_3 (dk_at dksX4_layMost_1 12 rfl rfl)
theorem dX4_layMost_35 : decode cX4_layMost 35 = .ok (.iastore, 1) := dk_79 (dk_at dksX4_layMost_1 13 rfl rfl)
theorem dX4_layMost_36 : decode cX4_layMost 36 = .ok (.iinc 2 1, 3) := dk_132 2 1 (dk_at dksX4_layMost_1 14 rfl rfl)
theorem dX4_layMost_39 : decode cX4_layMost 39 = .ok (.goto (-37), 3) := dk_167 255 219 (dk_at dksX4_layMost_1 17 rfl rfl)
theorem dX4_layMost_42 : decode cX4_layMost 42 = .ok (.return_, 1) := dk_177 (dk_at dksX4_layMost_1 20 rfl rfl)
abbrev cX4_noRow : ByteArray := prog_22_method_78_code
def yX4_noRow : MethodName := ⟨RX4, "noRow", "()V"⟩
def dkwX4_noRow_0 : List UInt8 := [3, 60, 27, 6, 162, 0, 16, 42, 180, 0, 119, 27, 3, 79, 132, 1, 1, 167, 255, 241, 177]
abbrev dktX4_noRow_0 : List UInt8 := dkwX4_noRow_0 ++ []
theorem dksX4_noRow_0 : cX4_noRow.data.toList.drop 0 = dktX4_noRow_0 := by decide +kernel
theorem dX4_noRow_0 : decode cX4_noRow 0 = .ok (.iconst 0, 1) := dk_3 (dk_at dksX4_noRow_0 0 rfl rfl)
theorem dX4_noRow_1 : decode cX4_noRow 1 = .ok (.istore_n 1, 1) := dk_60 (dk_at dksX4_noRow_0 1 rfl rfl)
theorem dX4_noRow_2 : decode cX4_noRow 2 = .ok (.iload_n 1, 1) := dk_27 (dk_at dksX4_noRow_0 2 rfl rfl)
theorem dX4_noRow_3 : decode cX4_noRow 3 = .ok (.iconst 3, 1) := dk_6 (dk_at dksX4_noRow_0 3 rfl rfl)
theorem dX4_noRow_4 : decode cX4_noRow 4 = .ok (.if_icmp .ge 16, 3) := dk_162 0 16 (dk_at dksX4_noRow_0 4 rfl rfl)
theorem dX4_noRow_7 : decode cX4_noRow 7 = .ok (.aload_n 0, 1) := dk_42 (dk_at dksX4_noRow_0 7 rfl rfl)
theorem dX4_noRow_8 : decode cX4_noRow 8 = .ok (.getfield 119, 3) := dk_180 0 119 (dk_at dksX4_noRow_0 8 rfl rfl)
theorem dX4_noRow_11 : decode cX4_noRow 11 = .ok (.iload_n 1, 1) := dk_27 (dk_at dksX4_noRow_0 11 rfl rfl)
theorem dX4_noRow_12 : decode cX4_noRow 12 = .ok (.iconst 0, 1) := dk_3 (dk_at dksX4_noRow_0 12 rfl rfl)
theorem dX4_noRow_13 : decode cX4_noRow 13 = .ok (.iastore, 1) := dk_79 (dk_at dksX4_noRow_0 13 rfl rfl)
theorem dX4_noRow_14 : decode cX4_noRow 14 = .ok (.iinc 1 1, 3) := dk_132 1 1 (dk_at dksX4_noRow_0 14 rfl rfl)
theorem dX4_noRow_17 : decode cX4_noRow 17 = .ok (.goto (-15), 3) := dk_167 255 241 (dk_at dksX4_noRow_0 17 rfl rfl)
theorem dX4_noRow_20 : decode cX4_noRow 20 = .ok (.return_, 1) := dk_177 (dk_at dksX4_noRow_0 20 rfl rfl)
abbrev cX4_layRow : ByteArray := prog_22_method_77_code
def yX4_layRow : MethodName := ⟨RX4, "layRow", "(II)V"⟩
def dkwX4_layRow_1 : List UInt8 := [167, 255, 235, 177]
abbrev dktX4_layRow_1 : List UInt8 := dkwX4_layRow_1 ++ []
def dkwX4_layRow_0 : List UInt8 := [3, 62, 29, 6, 162, 0, 22, 42, 27, 29, 42, 180, 0, 119, 29, 46, 28, 182, 1, 192, 132, 3, 1]
abbrev dktX4_layRow_0 : List UInt8 := dkwX4_layRow_0 ++ dktX4_layRow_1
theorem dksX4_layRow_0 : cX4_layRow.data.toList.drop 0 = dktX4_layRow_0 := by decide +kernel
theorem dksX4_layRow_1 : cX4_layRow.data.toList.drop 23 = dktX4_layRow_1 := dk_seg dksX4_layRow_0 23 rfl rfl
theorem dX4_layRow_0 : decode cX4_layRow 0 = .ok (.iconst 0, 1) := dk_3 (dk_at dksX4_layRow_0 0 rfl rfl)
theorem dX4_layRow_1 : decode cX4_layRow 1 = .ok (.istore_n 3, 1) := dk_62 (dk_at dksX4_layRow_0 1 rfl rfl)
theorem dX4_layRow_2 : decode cX4_layRow 2 = .ok (.iload_n 3, 1) := dk_29 (dk_at dksX4_layRow_0 2 rfl rfl)
theorem dX4_layRow_3 : decode cX4_layRow 3 = .ok (.iconst 3, 1) := dk_6 (dk_at dksX4_layRow_0 3 rfl rfl)
theorem dX4_layRow_4 : decode cX4_layRow 4 = .ok (.if_icmp .ge 22, 3) := dk_162 0 22 (dk_at dksX4_layRow_0 4 rfl rfl)
theorem dX4_layRow_7 : decode cX4_layRow 7 = .ok (.aload_n 0, 1) := dk_42 (dk_at dksX4_layRow_0 7 rfl rfl)
theorem dX4_layRow_8 : decode cX4_layRow 8 = .ok (.iload_n 1, 1) := dk_27 (dk_at dksX4_layRow_0 8 rfl rfl)
theorem dX4_layRow_9 : decode cX4_layRow 9 = .ok (.iload_n 3, 1) := dk_29 (dk_at dksX4_layRow_0 9 rfl rfl)
theorem dX4_layRow_10 : decode cX4_layRow 10 = .ok (.aload_n 0, 1) := dk_42 (dk_at dksX4_layRow_0 10 rfl rfl)
theorem dX4_layRow_11 : decode cX4_layRow 11 = .ok (.getfield 119, 3) := dk_180 0 119 (dk_at dksX4_layRow_0 11 rfl rfl)
theorem dX4_layRow_14 : decode cX4_layRow 14 = .ok (.iload_n 3, 1) := dk_29 (dk_at dksX4_layRow_0 14 rfl rfl)
theorem dX4_layRow_15 : decode cX4_layRow 15 = .ok (.iaload, 1) := dk_46 (dk_at dksX4_layRow_0 15 rfl rfl)
theorem dX4_layRow_16 : decode cX4_layRow 16 = .ok (.iload_n 2, 1) := dk_28 (dk_at dksX4_layRow_0 16 rfl rfl)
theorem dX4_layRow_17 : decode cX4_layRow 17 = .ok (.invokevirtual 448, 3) := dk_182 1 192 (dk_at dksX4_layRow_0 17 rfl rfl)
theorem dX4_layRow_20 : decode cX4_layRow 20 = .ok (.iinc 3 1, 3) := dk_132 3 1 (dk_at dksX4_layRow_0 20 rfl rfl)
theorem dX4_layRow_23 : decode cX4_layRow 23 = .ok (.goto (-21), 3) := dk_167 255 235 (dk_at dksX4_layRow_1 0 rfl rfl)
theorem dX4_layRow_26 : decode cX4_layRow 26 = .ok (.return_, 1) := dk_177 (dk_at dksX4_layRow_1 3 rfl rfl)
abbrev cX4_nextRow : ByteArray := prog_22_method_79_code
def yX4_nextRow : MethodName := ⟨RX4, "nextRow", "([II)Z"⟩
def dkwX4_nextRow_2 : List UInt8 := [28, 163, 0, 5, 4, 172, 42, 180, 0, 119, 29, 3, 79, 132, 3, 255, 167, 255, 194, 3, 172]
abbrev dktX4_nextRow_2 : List UInt8 := dkwX4_nextRow_2 ++ []
def dkwX4_nextRow_1 : List UInt8 := [46, 163, 0, 29, 42, 180, 0, 119, 3, 46, 42, 180, 0, 119, 4, 46, 96, 42, 180, 0, 119, 5, 46, 96]
abbrev dktX4_nextRow_1 : List UInt8 := dkwX4_nextRow_1 ++ dktX4_nextRow_2
def dkwX4_nextRow_0 : List UInt8 := [5, 62, 29, 155, 0, 64, 42, 180, 0, 119, 29, 92, 46, 4, 96, 79, 42, 180, 0, 119, 29, 46, 43, 29]
abbrev dktX4_nextRow_0 : List UInt8 := dkwX4_nextRow_0 ++ dktX4_nextRow_1
theorem dksX4_nextRow_0 : cX4_nextRow.data.toList.drop 0 = dktX4_nextRow_0 := by decide +kernel
theorem dksX4_nextRow_1 : cX4_nextRow.data.toList.drop 24 = dktX4_nextRow_1 := dk_seg dksX4_nextRow_0 24 rfl rfl
theorem dksX4_nextRow_2 : cX4_nextRow.data.toList.drop 48 = dktX4_nextRow_2 := dk_seg dksX4_nextRow_1 24 rfl rfl
theorem dX4_nextRow_0 : decode cX4_nextRow 0 = .ok (.iconst 2, 1) := dk_5 (dk_at dksX4_nextRow_0 0 rfl rfl)
theorem dX4_nextRow_1 : decode cX4_nextRow 1 = .ok (.istore_n 3, 1) := dk_62 (dk_at dksX4_nextRow_0 1 rfl rfl)
theorem dX4_nextRow_2 : decode cX4_nextRow 2 = .ok (.iload_n 3, 1) := dk_29 (dk_at dksX4_nextRow_0 2 rfl rfl)
theorem dX4_nextRow_3 : decode cX4_nextRow 3 = .ok (.ifCond .lt 64, 3) := dk_155 0 64 (dk_at dksX4_nextRow_0 3 rfl rfl)
theorem dX4_nextRow_6 : decode cX4_nextRow 6 = .ok (.aload_n 0, 1) := dk_42 (dk_at dksX4_nextRow_0 6 rfl rfl)
theorem dX4_nextRow_7 : decode cX4_nextRow 7 = .ok (.getfield 119, 3) := dk_180 0 119 (dk_at dksX4_nextRow_0 7 rfl rfl)
theorem dX4_nextRow_10 : decode cX4_nextRow 10 = .ok (.iload_n 3, 1) := dk_29 (dk_at dksX4_nextRow_0 10 rfl rfl)
theorem dX4_nextRow_11 : decode cX4_nextRow 11 = .ok (.dup2, 1) := dk_92 (dk_at dksX4_nextRow_0 11 rfl rfl)
theorem dX4_nextRow_12 : decode cX4_nextRow 12 = .ok (.iaload, 1) := dk_46 (dk_at dksX4_nextRow_0 12 rfl rfl)
theorem dX4_nextRow_13 : decode cX4_nextRow 13 = .ok (.iconst 1, 1) := dk_4 (dk_at dksX4_nextRow_0 13 rfl rfl)
theorem dX4_nextRow_14 : decode cX4_nextRow 14 = .ok (.iadd, 1) := dk_96 (dk_at dksX4_nextRow_0 14 rfl rfl)
theorem dX4_nextRow_15 : decode cX4_nextRow 15 = .ok (.iastore, 1) := dk_79 (dk_at dksX4_nextRow_0 15 rfl rfl)
theorem dX4_nextRow_16 : decode cX4_nextRow 16 = .ok (.aload_n 0, 1) := dk_42 (dk_at dksX4_nextRow_0 16 rfl rfl)
theorem dX4_nextRow_17 : decode cX4_nextRow 17 = .ok (.getfield 119, 3) := dk_180 0 119 (dk_at dksX4_nextRow_0 17 rfl rfl)
theorem dX4_nextRow_20 : decode cX4_nextRow 20 = .ok (.iload_n 3, 1) := dk_29 (dk_at dksX4_nextRow_0 20 rfl rfl)
theorem dX4_nextRow_21 : decode cX4_nextRow 21 = .ok (.iaload, 1) := dk_46 (dk_at dksX4_nextRow_0 21 rfl rfl)
theorem dX4_nextRow_22 : decode cX4_nextRow 22 = .ok (.aload_n 1, 1) := dk_43 (dk_at dksX4_nextRow_0 22 rfl rfl)
theorem dX4_nextRow_23 : decode cX4_nextRow 23 = .ok (.iload_n 3, 1) := dk_29 (dk_at dksX4_nextRow_0 23 rfl rfl)
theorem dX4_nextRow_24 : decode cX4_nextRow 24 = .ok (.iaload, 1) := dk_46 (dk_at dksX4_nextRow_1 0 rfl rfl)
theorem dX4_nextRow_25 : decode cX4_nextRow 25 = .ok (.if_icmp .gt 29, 3) := dk_163 0 29 (dk_at dksX4_nextRow_1 1 rfl rfl)
theorem dX4_nextRow_28 : decode cX4_nextRow 28 = .ok (.aload_n 0, 1) := dk_42 (dk_at dksX4_nextRow_1 4 rfl rfl)
theorem dX4_nextRow_29 : decode cX4_nextRow 29 = .ok (.getfield 119, 3) := dk_180 0 119 (dk_at dksX4_nextRow_1 5 rfl rfl)
theorem dX4_nextRow_32 : decode cX4_nextRow 32 = .ok (.iconst 0, 1) := dk_3 (dk_at dksX4_nextRow_1 8 rfl rfl)
theorem dX4_nextRow_33 : decode cX4_nextRow 33 = .ok (.iaload, 1) := dk_46 (dk_at dksX4_nextRow_1 9 rfl rfl)
theorem dX4_nextRow_34 : decode cX4_nextRow 34 = .ok (.aload_n 0, 1) := dk_42 (dk_at dksX4_nextRow_1 10 rfl rfl)
theorem dX4_nextRow_35 : decode cX4_nextRow 35 = .ok (.getfield 119, 3) := dk_180 0 119 (dk_at dksX4_nextRow_1 11 rfl rfl)
theorem dX4_nextRow_38 : decode cX4_nextRow 38 = .ok (.iconst 1, 1) := dk_4 (dk_at dksX4_nextRow_1 14 rfl rfl)
theorem dX4_nextRow_39 : decode cX4_nextRow 39 = .ok (.iaload, 1) := dk_46 (dk_at dksX4_nextRow_1 15 rfl rfl)
theorem dX4_nextRow_40 : decode cX4_nextRow 40 = .ok (.iadd, 1) := dk_96 (dk_at dksX4_nextRow_1 16 rfl rfl)
theorem dX4_nextRow_41 : decode cX4_nextRow 41 = .ok (.aload_n 0, 1) := dk_42 (dk_at dksX4_nextRow_1 17 rfl rfl)
theorem dX4_nextRow_42 : decode cX4_nextRow 42 = .ok (.getfield 119, 3) := dk_180 0 119 (dk_at dksX4_nextRow_1 18 rfl rfl)
theorem dX4_nextRow_45 : decode cX4_nextRow 45 = .ok (.iconst 2, 1) := dk_5 (dk_at dksX4_nextRow_1 21 rfl rfl)
theorem dX4_nextRow_46 : decode cX4_nextRow 46 = .ok (.iaload, 1) := dk_46 (dk_at dksX4_nextRow_1 22 rfl rfl)
theorem dX4_nextRow_47 : decode cX4_nextRow 47 = .ok (.iadd, 1) := dk_96 (dk_at dksX4_nextRow_1 23 rfl rfl)
theorem dX4_nextRow_48 : decode cX4_nextRow 48 = .ok (.iload_n 2, 1) := dk_28 (dk_at dksX4_nextRow_2 0 rfl rfl)
theorem dX4_nextRow_49 : decode cX4_nextRow 49 = .ok (.if_icmp .gt 5, 3) := dk_163 0 5 (dk_at dksX4_nextRow_2 1 rfl rfl)
theorem dX4_nextRow_52 : decode cX4_nextRow 52 = .ok (.iconst 1, 1) := dk_4 (dk_at dksX4_nextRow_2 4 rfl rfl)
theorem dX4_nextRow_53 : decode cX4_nextRow 53 = .ok (.ireturn, 1) := dk_172 (dk_at dksX4_nextRow_2 5 rfl rfl)
theorem dX4_nextRow_54 : decode cX4_nextRow 54 = .ok (.aload_n 0, 1) := dk_42 (dk_at dksX4_nextRow_2 6 rfl rfl)
theorem dX4_nextRow_55 : decode cX4_nextRow 55 = .ok (.getfield 119, 3) := dk_180 0 119 (dk_at dksX4_nextRow_2 7 rfl rfl)
theorem dX4_nextRow_58 : decode cX4_nextRow 58 = .ok (.iload_n 3, 1) := dk_29 (dk_at dksX4_nextRow_2 10 rfl rfl)
theorem dX4_nextRow_59 : decode cX4_nextRow 59 = .ok (.iconst 0, 1) := dk_3 (dk_at dksX4_nextRow_2 11 rfl rfl)
theorem dX4_nextRow_60 : decode cX4_nextRow 60 = .ok (.iastore, 1) := dk_79 (dk_at dksX4_nextRow_2 12 rfl rfl)
theorem dX4_nextRow_61 : decode cX4_nextRow 61 = .ok (.iinc 3 (-1), 3) := dk_132 3 255 (dk_at dksX4_nextRow_2 13 rfl rfl)
theorem dX4_nextRow_64 : decode cX4_nextRow 64 = .ok (.goto (-62), 3) := dk_167 255 194 (dk_at dksX4_nextRow_2 16 rfl rfl)
theorem dX4_nextRow_67 : decode cX4_nextRow 67 = .ok (.iconst 0, 1) := dk_3 (dk_at dksX4_nextRow_2 19 rfl rfl)
theorem dX4_nextRow_68 : decode cX4_nextRow 68 = .ok (.ireturn, 1) := dk_172 (dk_at dksX4_nextRow_2 20 rfl rfl)
abbrev cX4_show : ByteArray := prog_22_method_83_code
def yX4_show : MethodName := ⟨RX4, "show", "(I)I"⟩
def dkwX4_show_1 : List UInt8 := [154, 0, 10, 42, 180, 1, 231, 167, 0, 7, 42, 180, 1, 225, 172]
abbrev dktX4_show_1 : List UInt8 := dkwX4_show_1 ++ []
def dkwX4_show_0 : List UInt8 := [42, 42, 180, 0, 122, 3, 182, 1, 238, 42, 42, 180, 0, 20, 42, 180, 1, 45, 46, 181, 1, 158, 27]
abbrev dktX4_show_0 : List UInt8 := dkwX4_show_0 ++ dktX4_show_1
theorem dksX4_show_0 : cX4_show.data.toList.drop 0 = dktX4_show_0 := by decide +kernel
theorem dksX4_show_1 : cX4_show.data.toList.drop 23 = dktX4_show_1 := dk_seg dksX4_show_0 23 rfl rfl
theorem dX4_show_0 : decode cX4_show 0 = .ok (.aload_n 0, 1) := dk_42 (dk_at dksX4_show_0 0 rfl rfl)
theorem dX4_show_1 : decode cX4_show 1 = .ok (.aload_n 0, 1) := dk_42 (dk_at dksX4_show_0 1 rfl rfl)
theorem dX4_show_2 : decode cX4_show 2 = .ok (.getfield 122, 3) := dk_180 0 122 (dk_at dksX4_show_0 2 rfl rfl)
theorem dX4_show_5 : decode cX4_show 5 = .ok (.iconst 0, 1) := dk_3 (dk_at dksX4_show_0 5 rfl rfl)
theorem dX4_show_6 : decode cX4_show 6 = .ok (.invokevirtual 494, 3) := dk_182 1 238 (dk_at dksX4_show_0 6 rfl rfl)
theorem dX4_show_9 : decode cX4_show 9 = .ok (.aload_n 0, 1) := dk_42 (dk_at dksX4_show_0 9 rfl rfl)
theorem dX4_show_10 : decode cX4_show 10 = .ok (.aload_n 0, 1) := dk_42 (dk_at dksX4_show_0 10 rfl rfl)
theorem dX4_show_11 : decode cX4_show 11 = .ok (.getfield 20, 3) := dk_180 0 20 (dk_at dksX4_show_0 11 rfl rfl)
theorem dX4_show_14 : decode cX4_show 14 = .ok (.aload_n 0, 1) := dk_42 (dk_at dksX4_show_0 14 rfl rfl)
theorem dX4_show_15 : decode cX4_show 15 = .ok (.getfield 301, 3) := dk_180 1 45 (dk_at dksX4_show_0 15 rfl rfl)
theorem dX4_show_18 : decode cX4_show 18 = .ok (.iaload, 1) := dk_46 (dk_at dksX4_show_0 18 rfl rfl)
theorem dX4_show_19 : decode cX4_show 19 = .ok (.putfield 414, 3) := dk_181 1 158 (dk_at dksX4_show_0 19 rfl rfl)
theorem dX4_show_22 : decode cX4_show 22 = .ok (.iload_n 1, 1) := dk_27 (dk_at dksX4_show_0 22 rfl rfl)
theorem dX4_show_23 : decode cX4_show 23 = .ok (.ifCond .ne 10, 3) := dk_154 0 10 (dk_at dksX4_show_1 0 rfl rfl)
theorem dX4_show_26 : decode cX4_show 26 = .ok (.aload_n 0, 1) := dk_42 (dk_at dksX4_show_1 3 rfl rfl)
theorem dX4_show_27 : decode cX4_show 27 = .ok (.getfield 487, 3) := dk_180 1 231 (dk_at dksX4_show_1 4 rfl rfl)
theorem dX4_show_30 : decode cX4_show 30 = .ok (.goto 7, 3) := dk_167 0 7 (dk_at dksX4_show_1 7 rfl rfl)
theorem dX4_show_33 : decode cX4_show 33 = .ok (.aload_n 0, 1) := dk_42 (dk_at dksX4_show_1 10 rfl rfl)
theorem dX4_show_34 : decode cX4_show 34 = .ok (.getfield 481, 3) := dk_180 1 225 (dk_at dksX4_show_1 11 rfl rfl)
theorem dX4_show_37 : decode cX4_show 37 = .ok (.ireturn, 1) := dk_172 (dk_at dksX4_show_1 14 rfl rfl)
abbrev cX4_showRow : ByteArray := prog_22_method_82_code
def yX4_showRow : MethodName := ⟨RX4, "showRow", "([II)V"⟩
def dkwX4_showRow_1 : List UInt8 := [46, 79, 132, 3, 1, 167, 255, 229, 177]
abbrev dktX4_showRow_1 : List UInt8 := dkwX4_showRow_1 ++ []
def dkwX4_showRow_0 : List UInt8 := [3, 62, 29, 42, 180, 0, 20, 42, 180, 1, 45, 46, 162, 0, 20, 42, 180, 0, 125, 28, 29, 96, 43, 29]
abbrev dktX4_showRow_0 : List UInt8 := dkwX4_showRow_0 ++ dktX4_showRow_1
theorem dksX4_showRow_0 : cX4_showRow.data.toList.drop 0 = dktX4_showRow_0 := by decide +kernel
theorem dksX4_showRow_1 : cX4_showRow.data.toList.drop 24 = dktX4_showRow_1 := dk_seg dksX4_showRow_0 24 rfl rfl
theorem dX4_showRow_0 : decode cX4_showRow 0 = .ok (.iconst 0, 1) := dk_3 (dk_at dksX4_showRow_0 0 rfl rfl)
theorem dX4_showRow_1 : decode cX4_showRow 1 = .ok (.istore_n 3, 1) := dk_62 (dk_at dksX4_showRow_0 1 rfl rfl)
theorem dX4_showRow_2 : decode cX4_showRow 2 = .ok (.iload_n 3, 1) := dk_29 (dk_at dksX4_showRow_0 2 rfl rfl)
theorem dX4_showRow_3 : decode cX4_showRow 3 = .ok (.aload_n 0, 1) := dk_42 (dk_at dksX4_showRow_0 3 rfl rfl)
theorem dX4_showRow_4 : decode cX4_showRow 4 = .ok (.getfield 20, 3) := dk_180 0 20 (dk_at dksX4_showRow_0 4 rfl rfl)
theorem dX4_showRow_7 : decode cX4_showRow 7 = .ok (.aload_n 0, 1) := dk_42 (dk_at dksX4_showRow_0 7 rfl rfl)
theorem dX4_showRow_8 : decode cX4_showRow 8 = .ok (.getfield 301, 3) := dk_180 1 45 (dk_at dksX4_showRow_0 8 rfl rfl)
theorem dX4_showRow_11 : decode cX4_showRow 11 = .ok (.iaload, 1) := dk_46 (dk_at dksX4_showRow_0 11 rfl rfl)
theorem dX4_showRow_12 : decode cX4_showRow 12 = .ok (.if_icmp .ge 20, 3) := dk_162 0 20 (dk_at dksX4_showRow_0 12 rfl rfl)
theorem dX4_showRow_15 : decode cX4_showRow 15 = .ok (.aload_n 0, 1) := dk_42 (dk_at dksX4_showRow_0 15 rfl rfl)
theorem dX4_showRow_16 : decode cX4_showRow 16 = .ok (.getfield 125, 3) := dk_180 0 125 (dk_at dksX4_showRow_0 16 rfl rfl)
theorem dX4_showRow_19 : decode cX4_showRow 19 = .ok (.iload_n 2, 1) := dk_28 (dk_at dksX4_showRow_0 19 rfl rfl)
theorem dX4_showRow_20 : decode cX4_showRow 20 = .ok (.iload_n 3, 1) := dk_29 (dk_at dksX4_showRow_0 20 rfl rfl)
theorem dX4_showRow_21 : decode cX4_showRow 21 = .ok (.iadd, 1) := dk_96 (dk_at dksX4_showRow_0 21 rfl rfl)
theorem dX4_showRow_22 : decode cX4_showRow 22 = .ok (.aload_n 1, 1) := dk_43 (dk_at dksX4_showRow_0 22 rfl rfl)
theorem dX4_showRow_23 : decode cX4_showRow 23 = .ok (.iload_n 3, 1) := dk_29 (dk_at dksX4_showRow_0 23 rfl rfl)
theorem dX4_showRow_24 : decode cX4_showRow 24 = .ok (.iaload, 1) := dk_46 (dk_at dksX4_showRow_1 0 rfl rfl)
theorem dX4_showRow_25 : decode cX4_showRow 25 = .ok (.iastore, 1) := dk_79 (dk_at dksX4_showRow_1 1 rfl rfl)
theorem dX4_showRow_26 : decode cX4_showRow 26 = .ok (.iinc 3 1, 3) := dk_132 3 1 (dk_at dksX4_showRow_1 2 rfl rfl)
theorem dX4_showRow_29 : decode cX4_showRow 29 = .ok (.goto (-27), 3) := dk_167 255 229 (dk_at dksX4_showRow_1 5 rfl rfl)
theorem dX4_showRow_32 : decode cX4_showRow 32 = .ok (.return_, 1) := dk_177 (dk_at dksX4_showRow_1 8 rfl rfl)
abbrev cX4_good : ByteArray := prog_22_method_85_code
def yX4_good : MethodName := ⟨RX4, "good", "(II)I"⟩
def dkwX4_good_1 : List UInt8 := [19, 1, 173, 172, 42, 27, 4, 182, 1, 242, 42, 28, 182, 1, 245, 172]
abbrev dktX4_good_1 : List UInt8 := dkwX4_good_1 ++ []
def dkwX4_good_0 : List UInt8 := [42, 3, 181, 1, 158, 42, 27, 182, 1, 170, 153, 0, 12, 28, 3, 4, 184, 1, 145, 154, 0, 7]
abbrev dktX4_good_0 : List UInt8 := dkwX4_good_0 ++ dktX4_good_1
theorem dksX4_good_0 : cX4_good.data.toList.drop 0 = dktX4_good_0 := by decide +kernel
theorem dksX4_good_1 : cX4_good.data.toList.drop 22 = dktX4_good_1 := dk_seg dksX4_good_0 22 rfl rfl
theorem dX4_good_0 : decode cX4_good 0 = .ok (.aload_n 0, 1) := dk_42 (dk_at dksX4_good_0 0 rfl rfl)
theorem dX4_good_1 : decode cX4_good 1 = .ok (.iconst 0, 1) := dk_3 (dk_at dksX4_good_0 1 rfl rfl)
theorem dX4_good_2 : decode cX4_good 2 = .ok (.putfield 414, 3) := dk_181 1 158 (dk_at dksX4_good_0 2 rfl rfl)
theorem dX4_good_5 : decode cX4_good 5 = .ok (.aload_n 0, 1) := dk_42 (dk_at dksX4_good_0 5 rfl rfl)
theorem dX4_good_6 : decode cX4_good 6 = .ok (.iload_n 1, 1) := dk_27 (dk_at dksX4_good_0 6 rfl rfl)
theorem dX4_good_7 : decode cX4_good 7 = .ok (.invokevirtual 426, 3) := dk_182 1 170 (dk_at dksX4_good_0 7 rfl rfl)
theorem dX4_good_10 : decode cX4_good 10 = .ok (.ifCond .eq 12, 3) := dk_153 0 12 (dk_at dksX4_good_0 10 rfl rfl)
theorem dX4_good_13 : decode cX4_good 13 = .ok (.iload_n 2, 1) := dk_28 (dk_at dksX4_good_0 13 rfl rfl)
theorem dX4_good_14 : decode cX4_good 14 = .ok (.iconst 0, 1) := dk_3 (dk_at dksX4_good_0 14 rfl rfl)
theorem dX4_good_15 : decode cX4_good 15 = .ok (.iconst 1, 1) := dk_4 (dk_at dksX4_good_0 15 rfl rfl)
theorem dX4_good_16 : decode cX4_good 16 = .ok (.invokestatic 401, 3) := dk_184 1 145 (dk_at dksX4_good_0 16 rfl rfl)
theorem dX4_good_19 : decode cX4_good 19 = .ok (.ifCond .ne 7, 3) := dk_154 0 7 (dk_at dksX4_good_0 19 rfl rfl)
theorem dX4_good_22 : decode cX4_good 22 = .ok (.ldc_w 429, 3) := dk_19 1 173 (dk_at dksX4_good_1 0 rfl rfl)
theorem dX4_good_25 : decode cX4_good 25 = .ok (.ireturn, 1) := dk_172 (dk_at dksX4_good_1 3 rfl rfl)
theorem dX4_good_26 : decode cX4_good 26 = .ok (.aload_n 0, 1) := dk_42 (dk_at dksX4_good_1 4 rfl rfl)
theorem dX4_good_27 : decode cX4_good 27 = .ok (.iload_n 1, 1) := dk_27 (dk_at dksX4_good_1 5 rfl rfl)
theorem dX4_good_28 : decode cX4_good 28 = .ok (.iconst 1, 1) := dk_4 (dk_at dksX4_good_1 6 rfl rfl)
theorem dX4_good_29 : decode cX4_good 29 = .ok (.invokevirtual 498, 3) := dk_182 1 242 (dk_at dksX4_good_1 7 rfl rfl)
theorem dX4_good_32 : decode cX4_good 32 = .ok (.aload_n 0, 1) := dk_42 (dk_at dksX4_good_1 10 rfl rfl)
theorem dX4_good_33 : decode cX4_good 33 = .ok (.iload_n 2, 1) := dk_28 (dk_at dksX4_good_1 11 rfl rfl)
theorem dX4_good_34 : decode cX4_good 34 = .ok (.invokevirtual 501, 3) := dk_182 1 245 (dk_at dksX4_good_1 12 rfl rfl)
theorem dX4_good_37 : decode cX4_good 37 = .ok (.ireturn, 1) := dk_172 (dk_at dksX4_good_1 15 rfl rfl)
abbrev cX4_leaks : ByteArray := prog_22_method_87_code
def yX4_leaks : MethodName := ⟨RX4, "leaks", "(I)I"⟩
def dkwX4_leaks_2 : List UInt8 := [2, 182, 1, 248, 29, 28, 100, 172]
abbrev dktX4_leaks_2 : List UInt8 := dkwX4_leaks_2 ++ []
def dkwX4_leaks_1 : List UInt8 := [182, 1, 164, 100, 61, 42, 27, 4, 182, 1, 248, 42, 182, 1, 210, 42, 27, 182, 1, 164, 100, 62, 42, 27]
abbrev dktX4_leaks_1 : List UInt8 := dkwX4_leaks_1 ++ dktX4_leaks_2
def dkwX4_leaks_0 : List UInt8 := [42, 27, 182, 1, 170, 154, 0, 7, 19, 1, 173, 172, 42, 27, 3, 182, 1, 242, 42, 182, 1, 210, 42, 27]
abbrev dktX4_leaks_0 : List UInt8 := dkwX4_leaks_0 ++ dktX4_leaks_1
theorem dksX4_leaks_0 : cX4_leaks.data.toList.drop 0 = dktX4_leaks_0 := by decide +kernel
theorem dksX4_leaks_1 : cX4_leaks.data.toList.drop 24 = dktX4_leaks_1 := dk_seg dksX4_leaks_0 24 rfl rfl
theorem dksX4_leaks_2 : cX4_leaks.data.toList.drop 48 = dktX4_leaks_2 := dk_seg dksX4_leaks_1 24 rfl rfl
theorem dX4_leaks_0 : decode cX4_leaks 0 = .ok (.aload_n 0, 1) := dk_42 (dk_at dksX4_leaks_0 0 rfl rfl)
theorem dX4_leaks_1 : decode cX4_leaks 1 = .ok (.iload_n 1, 1) := dk_27 (dk_at dksX4_leaks_0 1 rfl rfl)
theorem dX4_leaks_2 : decode cX4_leaks 2 = .ok (.invokevirtual 426, 3) := dk_182 1 170 (dk_at dksX4_leaks_0 2 rfl rfl)
theorem dX4_leaks_5 : decode cX4_leaks 5 = .ok (.ifCond .ne 7, 3) := dk_154 0 7 (dk_at dksX4_leaks_0 5 rfl rfl)
theorem dX4_leaks_8 : decode cX4_leaks 8 = .ok (.ldc_w 429, 3) := dk_19 1 173 (dk_at dksX4_leaks_0 8 rfl rfl)
theorem dX4_leaks_11 : decode cX4_leaks 11 = .ok (.ireturn, 1) := dk_172 (dk_at dksX4_leaks_0 11 rfl rfl)
theorem dX4_leaks_12 : decode cX4_leaks 12 = .ok (.aload_n 0, 1) := dk_42 (dk_at dksX4_leaks_0 12 rfl rfl)
theorem dX4_leaks_13 : decode cX4_leaks 13 = .ok (.iload_n 1, 1) := dk_27 (dk_at dksX4_leaks_0 13 rfl rfl)
theorem dX4_leaks_14 : decode cX4_leaks 14 = .ok (.iconst 0, 1) := dk_3 (dk_at dksX4_leaks_0 14 rfl rfl)
theorem dX4_leaks_15 : decode cX4_leaks 15 = .ok (.invokevirtual 498, 3) := dk_182 1 242 (dk_at dksX4_leaks_0 15 rfl rfl)
theorem dX4_leaks_18 : decode cX4_leaks 18 = .ok (.aload_n 0, 1) := dk_42 (dk_at dksX4_leaks_0 18 rfl rfl)
theorem dX4_leaks_19 : decode cX4_leaks 19 = .ok (.invokevirtual 466, 3) := dk_182 1 210 (dk_at dksX4_leaks_0 19 rfl rfl)
theorem dX4_leaks_22 : decode cX4_leaks 22 = .ok (.aload_n 0, 1) := dk_42 (dk_at dksX4_leaks_0 22 rfl rfl)
theorem dX4_leaks_23 : decode cX4_leaks 23 = .ok (.iload_n 1, 1) := dk_27 (dk_at dksX4_leaks_0 23 rfl rfl)
theorem dX4_leaks_24 : decode cX4_leaks 24 = .ok (.invokevirtual 420, 3) := dk_182 1 164 (dk_at dksX4_leaks_1 0 rfl rfl)
theorem dX4_leaks_27 : decode cX4_leaks 27 = .ok (.isub, 1) := dk_100 (dk_at dksX4_leaks_1 3 rfl rfl)
theorem dX4_leaks_28 : decode cX4_leaks 28 = .ok (.istore_n 2, 1) := dk_61 (dk_at dksX4_leaks_1 4 rfl rfl)
theorem dX4_leaks_29 : decode cX4_leaks 29 = .ok (.aload_n 0, 1) := dk_42 (dk_at dksX4_leaks_1 5 rfl rfl)
theorem dX4_leaks_30 : decode cX4_leaks 30 = .ok (.iload_n 1, 1) := dk_27 (dk_at dksX4_leaks_1 6 rfl rfl)
theorem dX4_leaks_31 : decode cX4_leaks 31 = .ok (.iconst 1, 1) := dk_4 (dk_at dksX4_leaks_1 7 rfl rfl)
theorem dX4_leaks_32 : decode cX4_leaks 32 = .ok (.invokevirtual 504, 3) := dk_182 1 248 (dk_at dksX4_leaks_1 8 rfl rfl)
theorem dX4_leaks_35 : decode cX4_leaks 35 = .ok (.aload_n 0, 1) := dk_42 (dk_at dksX4_leaks_1 11 rfl rfl)
theorem dX4_leaks_36 : decode cX4_leaks 36 = .ok (.invokevirtual 466, 3) := dk_182 1 210 (dk_at dksX4_leaks_1 12 rfl rfl)
theorem dX4_leaks_39 : decode cX4_leaks 39 = .ok (.aload_n 0, 1) := dk_42 (dk_at dksX4_leaks_1 15 rfl rfl)
theorem dX4_leaks_40 : decode cX4_leaks 40 = .ok (.iload_n 1, 1) := dk_27 (dk_at dksX4_leaks_1 16 rfl rfl)
theorem dX4_leaks_41 : decode cX4_leaks 41 = .ok (.invokevirtual 420, 3) := dk_182 1 164 (dk_at dksX4_leaks_1 17 rfl rfl)
theorem dX4_leaks_44 : decode cX4_leaks 44 = .ok (.isub, 1) := dk_100 (dk_at dksX4_leaks_1 20 rfl rfl)
theorem dX4_leaks_45 : decode cX4_leaks 45 = .ok (.istore_n 3, 1) := dk_62 (dk_at dksX4_leaks_1 21 rfl rfl)
theorem dX4_leaks_46 : decode cX4_leaks 46 = .ok (.aload_n 0, 1) := dk_42 (dk_at dksX4_leaks_1 22 rfl rfl)
theorem dX4_leaks_47 : decode cX4_leaks 47 = .ok (.iload_n 1, 1) := dk_27 (dk_at dksX4_leaks_1 23 rfl rfl)
theorem dX4_leaks_48 : decode cX4_leaks 48 = .ok (.iconst (-1), 1) := dk_2 (dk_at dksX4_leaks_2 0 rfl rfl)
theorem dX4_leaks_49 : decode cX4_leaks 49 = .ok (.invokevirtual 504, 3) := dk_182 1 248 (dk_at dksX4_leaks_2 1 rfl rfl)
theorem dX4_leaks_52 : decode cX4_leaks 52 = .ok (.iload_n 3, 1) := dk_29 (dk_at dksX4_leaks_2 4 rfl rfl)
theorem dX4_leaks_53 : decode cX4_leaks 53 = .ok (.iload_n 2, 1) := dk_28 (dk_at dksX4_leaks_2 5 rfl rfl)
theorem dX4_leaks_54 : decode cX4_leaks 54 = .ok (.isub, 1) := dk_100 (dk_at dksX4_leaks_2 6 rfl rfl)
theorem dX4_leaks_55 : decode cX4_leaks 55 = .ok (.ireturn, 1) := dk_172 (dk_at dksX4_leaks_2 7 rfl rfl)
abbrev cX4_layBestRow : ByteArray := prog_22_method_86_code
def yX4_layBestRow : MethodName := ⟨RX4, "layBestRow", "(II)V"⟩
def dkwX4_layBestRow_1 : List UInt8 := [167, 255, 235, 177]
abbrev dktX4_layBestRow_1 : List UInt8 := dkwX4_layBestRow_1 ++ []
def dkwX4_layBestRow_0 : List UInt8 := [3, 62, 29, 6, 162, 0, 22, 42, 27, 29, 42, 180, 0, 122, 29, 46, 28, 182, 1, 192, 132, 3, 1]
abbrev dktX4_layBestRow_0 : List UInt8 := dkwX4_layBestRow_0 ++ dktX4_layBestRow_1
theorem dksX4_layBestRow_0 : cX4_layBestRow.data.toList.drop 0 = dktX4_layBestRow_0 := by decide +kernel
theorem dksX4_layBestRow_1 : cX4_layBestRow.data.toList.drop 23 = dktX4_layBestRow_1 := dk_seg dksX4_layBestRow_0 23 rfl rfl
theorem dX4_layBestRow_0 : decode cX4_layBestRow 0 = .ok (.iconst 0, 1) := dk_3 (dk_at dksX4_layBestRow_0 0 rfl rfl)
theorem dX4_layBestRow_1 : decode cX4_layBestRow 1 = .ok (.istore_n 3, 1) := dk_62 (dk_at dksX4_layBestRow_0 1 rfl rfl)
theorem dX4_layBestRow_2 : decode cX4_layBestRow 2 = .ok (.iload_n 3, 1) := dk_29 (dk_at dksX4_layBestRow_0 2 rfl rfl)
theorem dX4_layBestRow_3 : decode cX4_layBestRow 3 = .ok (.iconst 3, 1) := dk_6 (dk_at dksX4_layBestRow_0 3 rfl rfl)
theorem dX4_layBestRow_4 : decode cX4_layBestRow 4 = .ok (.if_icmp .ge 22, 3) := dk_162 0 22 (dk_at dksX4_layBestRow_0 4 rfl rfl)
theorem dX4_layBestRow_7 : decode cX4_layBestRow 7 = .ok (.aload_n 0, 1) := dk_42 (dk_at dksX4_layBestRow_0 7 rfl rfl)
theorem dX4_layBestRow_8 : decode cX4_layBestRow 8 = .ok (.iload_n 1, 1) := dk_27 (dk_at dksX4_layBestRow_0 8 rfl rfl)
theorem dX4_layBestRow_9 : decode cX4_layBestRow 9 = .ok (.iload_n 3, 1) := dk_29 (dk_at dksX4_layBestRow_0 9 rfl rfl)
theorem dX4_layBestRow_10 : decode cX4_layBestRow 10 = .ok (.aload_n 0, 1) := dk_42 (dk_at dksX4_layBestRow_0 10 rfl rfl)
theorem dX4_layBestRow_11 : decode cX4_layBestRow 11 = .ok (.getfield 122, 3) := dk_180 0 122 (dk_at dksX4_layBestRow_0 11 rfl rfl)
theorem dX4_layBestRow_14 : decode cX4_layBestRow 14 = .ok (.iload_n 3, 1) := dk_29 (dk_at dksX4_layBestRow_0 14 rfl rfl)
theorem dX4_layBestRow_15 : decode cX4_layBestRow 15 = .ok (.iaload, 1) := dk_46 (dk_at dksX4_layBestRow_0 15 rfl rfl)
theorem dX4_layBestRow_16 : decode cX4_layBestRow 16 = .ok (.iload_n 2, 1) := dk_28 (dk_at dksX4_layBestRow_0 16 rfl rfl)
theorem dX4_layBestRow_17 : decode cX4_layBestRow 17 = .ok (.invokevirtual 448, 3) := dk_182 1 192 (dk_at dksX4_layBestRow_0 17 rfl rfl)
theorem dX4_layBestRow_20 : decode cX4_layBestRow 20 = .ok (.iinc 3 1, 3) := dk_132 3 1 (dk_at dksX4_layBestRow_0 20 rfl rfl)
theorem dX4_layBestRow_23 : decode cX4_layBestRow 23 = .ok (.goto (-21), 3) := dk_167 255 235 (dk_at dksX4_layBestRow_1 0 rfl rfl)
theorem dX4_layBestRow_26 : decode cX4_layBestRow 26 = .ok (.return_, 1) := dk_177 (dk_at dksX4_layBestRow_1 3 rfl rfl)
abbrev cX4_needs : ByteArray := prog_22_method_88_code
def yX4_needs : MethodName := ⟨RX4, "needs", "(II)I"⟩
def dkwX4_needs_6 : List UInt8 := [180, 0, 128, 42, 27, 182, 1, 186, 182, 1, 234, 62, 167, 255, 145, 21, 4, 172]
abbrev dktX4_needs_6 : List UInt8 := dkwX4_needs_6 ++ []
def dkwX4_needs_5 : List UInt8 := [42, 180, 0, 119, 3, 182, 1, 238, 42, 42, 180, 0, 20, 42, 180, 1, 45, 46, 181, 1, 158, 42, 42]
abbrev dktX4_needs_5 : List UInt8 := dkwX4_needs_5 ++ dktX4_needs_6
def dkwX4_needs_4 : List UInt8 := [54, 6, 21, 5, 153, 0, 41, 21, 4, 155, 0, 10, 21, 6, 21, 4, 162, 0, 29, 21, 6, 54, 4, 42]
abbrev dktX4_needs_4 : List UInt8 := dkwX4_needs_4 ++ dktX4_needs_5
def dkwX4_needs_3 : List UInt8 := [182, 1, 228, 42, 180, 0, 119, 3, 46, 42, 180, 0, 119, 4, 46, 96, 42, 180, 0, 119, 5, 46, 96]
abbrev dktX4_needs_3 : List UInt8 := dkwX4_needs_3 ++ dktX4_needs_4
def dkwX4_needs_2 : List UInt8 := [182, 1, 228, 42, 27, 182, 1, 164, 28, 161, 0, 7, 4, 167, 0, 4, 3, 54, 5, 42, 27, 2]
abbrev dktX4_needs_2 : List UInt8 := dkwX4_needs_2 ++ dktX4_needs_3
def dkwX4_needs_1 : List UInt8 := [2, 172, 42, 27, 182, 1, 219, 42, 182, 1, 222, 4, 62, 2, 54, 4, 29, 153, 0, 113, 42, 27, 4]
abbrev dktX4_needs_1 : List UInt8 := dkwX4_needs_1 ++ dktX4_needs_2
def dkwX4_needs_0 : List UInt8 := [42, 3, 181, 1, 158, 42, 27, 182, 1, 170, 153, 0, 14, 28, 16, 236, 16, 20, 184, 1, 145, 154, 0, 5]
abbrev dktX4_needs_0 : List UInt8 := dkwX4_needs_0 ++ dktX4_needs_1
theorem dksX4_needs_0 : cX4_needs.data.toList.drop 0 = dktX4_needs_0 := by decide +kernel
theorem dksX4_needs_1 : cX4_needs.data.toList.drop 24 = dktX4_needs_1 := dk_seg dksX4_needs_0 24 rfl rfl
theorem dksX4_needs_2 : cX4_needs.data.toList.drop 47 = dktX4_needs_2 := dk_seg dksX4_needs_1 23 rfl rfl
theorem dksX4_needs_3 : cX4_needs.data.toList.drop 69 = dktX4_needs_3 := dk_seg dksX4_needs_2 22 rfl rfl
theorem dksX4_needs_4 : cX4_needs.data.toList.drop 92 = dktX4_needs_4 := dk_seg dksX4_needs_3 23 rfl rfl
theorem dksX4_needs_5 : cX4_needs.data.toList.drop 116 = dktX4_needs_5 := dk_seg dksX4_needs_4 24 rfl rfl
theorem dksX4_needs_6 : cX4_needs.data.toList.drop 139 = dktX4_needs_6 := dk_seg dksX4_needs_5 23 rfl rfl
theorem dX4_needs_0 : decode cX4_needs 0 = .ok (.aload_n 0, 1) := dk_42 (dk_at dksX4_needs_0 0 rfl rfl)
theorem dX4_needs_1 : decode cX4_needs 1 = .ok (.iconst 0, 1) := dk_3 (dk_at dksX4_needs_0 1 rfl rfl)
theorem dX4_needs_2 : decode cX4_needs 2 = .ok (.putfield 414, 3) := dk_181 1 158 (dk_at dksX4_needs_0 2 rfl rfl)
theorem dX4_needs_5 : decode cX4_needs 5 = .ok (.aload_n 0, 1) := dk_42 (dk_at dksX4_needs_0 5 rfl rfl)
theorem dX4_needs_6 : decode cX4_needs 6 = .ok (.iload_n 1, 1) := dk_27 (dk_at dksX4_needs_0 6 rfl rfl)
theorem dX4_needs_7 : decode cX4_needs 7 = .ok (.invokevirtual 426, 3) := dk_182 1 170 (dk_at dksX4_needs_0 7 rfl rfl)
theorem dX4_needs_10 : decode cX4_needs 10 = .ok (.ifCond .eq 14, 3) := dk_153 0 14 (dk_at dksX4_needs_0 10 rfl rfl)
theorem dX4_needs_13 : decode cX4_needs 13 = .ok (.iload_n 2, 1) := dk_28 (dk_at dksX4_needs_0 13 rfl rfl)
theorem dX4_needs_14 : decode cX4_needs 14 = .ok (.bipush (-20), 2) := dk_16 236 (dk_at dksX4_needs_0 14 rfl rfl)
theorem dX4_needs_16 : decode cX4_needs 16 = .ok (.bipush 20, 2) := dk_16 20 (dk_at dksX4_needs_0 16 rfl rfl)
theorem dX4_needs_18 : decode cX4_needs 18 = .ok (.invokestatic 401, 3) := dk_184 1 145 (dk_at dksX4_needs_0 18 rfl rfl)
theorem dX4_needs_21 : decode cX4_needs 21 = .ok (.ifCond .ne 5, 3) := dk_154 0 5 (dk_at dksX4_needs_0 21 rfl rfl)
theorem dX4_needs_24 : decode cX4_needs 24 = .ok (.iconst (-1), 1) := dk_2 (dk_at dksX4_needs_1 0 rfl rfl)
theorem dX4_needs_25 : decode cX4_needs 25 = .ok (.ireturn, 1) := dk_172 (dk_at dksX4_needs_1 1 rfl rfl)
theorem dX4_needs_26 : decode cX4_needs 26 = .ok (.aload_n 0, 1) := dk_42 (dk_at dksX4_needs_1 2 rfl rfl)
theorem dX4_needs_27 : decode cX4_needs 27 = .ok (.iload_n 1, 1) := dk_27 (dk_at dksX4_needs_1 3 rfl rfl)
theorem dX4_needs_28 : decode cX4_needs 28 = .ok (.invokevirtual 475, 3) := dk_182 1 219 (dk_at dksX4_needs_1 4 rfl rfl)
theorem dX4_needs_31 : decode cX4_needs 31 = .ok (.aload_n 0, 1) := dk_42 (dk_at dksX4_needs_1 7 rfl rfl)
theorem dX4_needs_32 : decode cX4_needs 32 = .ok (.invokevirtual 478, 3) := dk_182 1 222 (dk_at dksX4_needs_1 8 rfl rfl)
theorem dX4_needs_35 : decode cX4_needs 35 = .ok (.iconst 1, 1) := dk_4 (dk_at dksX4_needs_1 11 rfl rfl)
theorem dX4_needs_36 : decode cX4_needs 36 = .ok (.istore_n 3, 1) := dk_62 (dk_at dksX4_needs_1 12 rfl rfl)
theorem dX4_needs_37 : decode cX4_needs 37 = .ok (.iconst (-1), 1) := dk_2 (dk_at dksX4_needs_1 13 rfl rfl)
theorem dX4_needs_38 : decode cX4_needs 38 = .ok (.istore 4, 2) := dk_54 4 (dk_at dksX4_needs_1 14 rfl rfl)
theorem dX4_needs_40 : decode cX4_needs 40 = .ok (.iload_n 3, 1) := dk_29 (dk_at dksX4_needs_1 16 rfl rfl)
theorem dX4_needs_41 : decode cX4_needs 41 = .ok (.ifCond .eq 113, 3) := dk_153 0 113 (dk_at dksX4_needs_1 17 rfl rfl)
theorem dX4_needs_44 : decode cX4_needs 44 = .ok (.aload_n 0, 1) := dk_42 (dk_at dksX4_needs_1 20 rfl rfl)
theorem dX4_needs_45 : decode cX4_needs 45 = .ok (.iload_n 1, 1) := dk_27 (dk_at dksX4_needs_1 21 rfl rfl)
theorem dX4_needs_46 : decode cX4_needs 46 = .ok (.iconst 1, 1) := dk_4 (dk_at dksX4_needs_1 22 rfl rfl)
theorem dX4_needs_47 : decode cX4_needs 47 = .ok (.invokevirtual 484, 3) := dk_182 1 228 (dk_at dksX4_needs_2 0 rfl rfl)
theorem dX4_needs_50 : decode cX4_needs 50 = .ok (.aload_n 0, 1) := dk_42 (dk_at dksX4_needs_2 3 rfl rfl)
theorem dX4_needs_51 : decode cX4_needs 51 = .ok (.iload_n 1, 1) := dk_27 (dk_at dksX4_needs_2 4 rfl rfl)
theorem dX4_needs_52 : decode cX4_needs 52 = .ok (.invokevirtual 420, 3) := dk_182 1 164 (dk_at dksX4_needs_2 5 rfl rfl)
theorem dX4_needs_55 : decode cX4_needs 55 = .ok (.iload_n 2, 1) := dk_28 (dk_at dksX4_needs_2 8 rfl rfl)
theorem dX4_needs_56 : decode cX4_needs 56 = .ok (.if_icmp .lt 7, 3) := dk_161 0 7 (dk_at dksX4_needs_2 9 rfl rfl)
theorem dX4_needs_59 : decode cX4_needs 59 = .ok (.iconst 1, 1) := dk_4 (dk_at dksX4_needs_2 12 rfl rfl)
theorem dX4_needs_60 : decode cX4_needs 60 = .ok (.goto 4, 3) := dk_167 0 4 (dk_at dksX4_needs_2 13 rfl rfl)
theorem dX4_needs_63 : decode cX4_needs 63 = .ok (.iconst 0, 1) := dk_3 (dk_at dksX4_needs_2 16 rfl rfl)
theorem dX4_needs_64 : decode cX4_needs 64 = .ok (.istore 5, 2) := dk_54 5 (dk_at dksX4_needs_2 17 rfl rfl)
theorem dX4_needs_66 : decode cX4_needs 66 = .ok (.aload_n 0, 1) := dk_42 (dk_at dksX4_needs_2 19 rfl rfl)
theorem dX4_needs_67 : decode cX4_needs 67 = .ok (.iload_n 1, 1) := dk_27 (dk_at dksX4_needs_2 20 rfl rfl)
theorem dX4_needs_68 : decode cX4_needs 68 = .ok (.iconst (-1), 1) := dk_2 (dk_at dksX4_needs_2 21 rfl rfl)
theorem dX4_needs_69 : decode cX4_needs 69 = .ok (.invokevirtual 484, 3) := dk_182 1 228 (dk_at dksX4_needs_3 0 rfl rfl)
theorem dX4_needs_72 : decode cX4_needs 72 = .ok (.aload_n 0, 1) := dk_42 (dk_at dksX4_needs_3 3 rfl rfl)
theorem dX4_needs_73 : decode cX4_needs 73 = .ok (.getfield 119, 3) := dk_180 0 119 (dk_at dksX4_needs_3 4 rfl rfl)
theorem dX4_needs_76 : decode cX4_needs 76 = .ok (.iconst 0, 1) := dk_3 (dk_at dksX4_needs_3 7 rfl rfl)
theorem dX4_needs_77 : decode cX4_needs 77 = .ok (.iaload, 1) := dk_46 (dk_at dksX4_needs_3 8 rfl rfl)
theorem dX4_needs_78 : decode cX4_needs 78 = .ok (.aload_n 0, 1) := dk_42 (dk_at dksX4_needs_3 9 rfl rfl)
theorem dX4_needs_79 : decode cX4_needs 79 = .ok (.getfield 119, 3) := dk_180 0 119 (dk_at dksX4_needs_3 10 rfl rfl)
theorem dX4_needs_82 : decode cX4_needs 82 = .ok (.iconst 1, 1) := dk_4 (dk_at dksX4_needs_3 13 rfl rfl)
theorem dX4_needs_83 : decode cX4_needs 83 = .ok (.iaload, 1) := dk_46 (dk_at dksX4_needs_3 14 rfl rfl)
theorem dX4_needs_84 : decode cX4_needs 84 = .ok (.iadd, 1) := dk_96 (dk_at dksX4_needs_3 15 rfl rfl)
theorem dX4_needs_85 : decode cX4_needs 85 = .ok (.aload_n 0, 1) := dk_42 (dk_at dksX4_needs_3 16 rfl rfl)
theorem dX4_needs_86 : decode cX4_needs 86 = .ok (.getfield 119, 3) := dk_180 0 119 (dk_at dksX4_needs_3 17 rfl rfl)
theorem dX4_needs_89 : decode cX4_needs 89 = .ok (.iconst 2, 1) := dk_5 (dk_at dksX4_needs_3 20 rfl rfl)
theorem dX4_needs_90 : decode cX4_needs 90 = .ok (.iaload, 1) := dk_46 (dk_at dksX4_needs_3 21 rfl rfl)
theorem dX4_needs_91 : decode cX4_needs 91 = .ok (.iadd, 1) := dk_96 (dk_at dksX4_needs_3 22 rfl rfl)
theorem dX4_needs_92 : decode cX4_needs 92 = .ok (.istore 6, 2) := dk_54 6 (dk_at dksX4_needs_4 0 rfl rfl)
theorem dX4_needs_94 : decode cX4_needs 94 = .ok (.iload 5, 2) := dk_21 5 (dk_at dksX4_needs_4 2 rfl rfl)
theorem dX4_needs_96 : decode cX4_needs 96 = .ok (.ifCond .eq 41, 3) := dk_153 0 41 (dk_at dksX4_needs_4 4 rfl rfl)
theorem dX4_needs_99 : decode cX4_needs 99 = .ok (.iload 4, 2) := dk_21 4 (dk_at dksX4_needs_4 7 rfl rfl)
theorem dX4_needs_101 : decode cX4_needs 101 = .ok (.ifCond .lt 10, 3) := dk_155 0 10 (dk_at dksX4_needs_4 9 rfl rfl)
theorem dX4_needs_104 : decode cX4_needs 104 = .ok (.iload 6, 2) := dk_21 6 (dk_at dksX4_needs_4 12 rfl rfl)
theorem dX4_needs_106 : decode cX4_needs 106 = .ok (.iload 4, 2) := dk_21 4 (dk_at dksX4_needs_4 14 rfl rfl)
theorem dX4_needs_108 : decode cX4_needs 108 = .ok (.if_icmp .ge 29, 3) := dk_162 0 29 (dk_at dksX4_needs_4 16 rfl rfl)
theorem dX4_needs_111 : decode cX4_needs 111 = .ok (.iload 6, 2) := dk_21 6 (dk_at dksX4_needs_4 19 rfl rfl)
theorem dX4_needs_113 : decode cX4_needs 113 = .ok (.istore 4, 2) := dk_54 4 (dk_at dksX4_needs_4 21 rfl rfl)
theorem dX4_needs_115 : decode cX4_needs 115 = .ok (.aload_n 0, 1) := dk_42 (dk_at dksX4_needs_4 23 rfl rfl)
theorem dX4_needs_116 : decode cX4_needs 116 = .ok (.aload_n 0, 1) := dk_42 (dk_at dksX4_needs_5 0 rfl rfl)
theorem dX4_needs_117 : decode cX4_needs 117 = .ok (.getfield 119, 3) := dk_180 0 119 (dk_at dksX4_needs_5 1 rfl rfl)
theorem dX4_needs_120 : decode cX4_needs 120 = .ok (.iconst 0, 1) := dk_3 (dk_at dksX4_needs_5 4 rfl rfl)
theorem dX4_needs_121 : decode cX4_needs 121 = .ok (.invokevirtual 494, 3) := dk_182 1 238 (dk_at dksX4_needs_5 5 rfl rfl)
theorem dX4_needs_124 : decode cX4_needs 124 = .ok (.aload_n 0, 1) := dk_42 (dk_at dksX4_needs_5 8 rfl rfl)
theorem dX4_needs_125 : decode cX4_needs 125 = .ok (.aload_n 0, 1) := dk_42 (dk_at dksX4_needs_5 9 rfl rfl)
theorem dX4_needs_126 : decode cX4_needs 126 = .ok (.getfield 20, 3) := dk_180 0 20 (dk_at dksX4_needs_5 10 rfl rfl)
theorem dX4_needs_129 : decode cX4_needs 129 = .ok (.aload_n 0, 1) := dk_42 (dk_at dksX4_needs_5 13 rfl rfl)
theorem dX4_needs_130 : decode cX4_needs 130 = .ok (.getfield 301, 3) := dk_180 1 45 (dk_at dksX4_needs_5 14 rfl rfl)
theorem dX4_needs_133 : decode cX4_needs 133 = .ok (.iaload, 1) := dk_46 (dk_at dksX4_needs_5 17 rfl rfl)
theorem dX4_needs_134 : decode cX4_needs 134 = .ok (.putfield 414, 3) := dk_181 1 158 (dk_at dksX4_needs_5 18 rfl rfl)
theorem dX4_needs_137 : decode cX4_needs 137 = .ok (.aload_n 0, 1) := dk_42 (dk_at dksX4_needs_5 21 rfl rfl)
theorem dX4_needs_138 : decode cX4_needs 138 = .ok (.aload_n 0, 1) := dk_42 (dk_at dksX4_needs_5 22 rfl rfl)
theorem dX4_needs_139 : decode cX4_needs 139 = .ok (.getfield 128, 3) := dk_180 0 128 (dk_at dksX4_needs_6 0 rfl rfl)
theorem dX4_needs_142 : decode cX4_needs 142 = .ok (.aload_n 0, 1) := dk_42 (dk_at dksX4_needs_6 3 rfl rfl)
theorem dX4_needs_143 : decode cX4_needs 143 = .ok (.iload_n 1, 1) := dk_27 (dk_at dksX4_needs_6 4 rfl rfl)
theorem dX4_needs_144 : decode cX4_needs 144 = .ok (.invokevirtual 442, 3) := dk_182 1 186 (dk_at dksX4_needs_6 5 rfl rfl)
theorem dX4_needs_147 : decode cX4_needs 147 = .ok (.invokevirtual 490, 3) := dk_182 1 234 (dk_at dksX4_needs_6 8 rfl rfl)
theorem dX4_needs_150 : decode cX4_needs 150 = .ok (.istore_n 3, 1) := dk_62 (dk_at dksX4_needs_6 11 rfl rfl)
theorem dX4_needs_151 : decode cX4_needs 151 = .ok (.goto (-111), 3) := dk_167 255 145 (dk_at dksX4_needs_6 12 rfl rfl)
theorem dX4_needs_154 : decode cX4_needs 154 = .ok (.iload 4, 2) := dk_21 4 (dk_at dksX4_needs_6 15 rfl rfl)
theorem dX4_needs_156 : decode cX4_needs 156 = .ok (.ireturn, 1) := dk_172 (dk_at dksX4_needs_6 17 rfl rfl)
abbrev cX4_pool : ByteArray := prog_22_method_92_code
def yX4_pool : MethodName := ⟨RX4, "pool", "(II)I"⟩
def dkwX4_pool_1 : List UInt8 := [42, 180, 1, 254, 172]
abbrev dktX4_pool_1 : List UInt8 := dkwX4_pool_1 ++ []
def dkwX4_pool_0 : List UInt8 := [42, 3, 181, 1, 158, 42, 27, 28, 182, 2, 4, 154, 0, 7, 19, 1, 173, 172, 42, 27, 28, 182, 2, 7]
abbrev dktX4_pool_0 : List UInt8 := dkwX4_pool_0 ++ dktX4_pool_1
theorem dksX4_pool_0 : cX4_pool.data.toList.drop 0 = dktX4_pool_0 := by decide +kernel
theorem dksX4_pool_1 : cX4_pool.data.toList.drop 24 = dktX4_pool_1 := dk_seg dksX4_pool_0 24 rfl rfl
theorem dX4_pool_0 : decode cX4_pool 0 = .ok (.aload_n 0, 1) := dk_42 (dk_at dksX4_pool_0 0 rfl rfl)
theorem dX4_pool_1 : decode cX4_pool 1 = .ok (.iconst 0, 1) := dk_3 (dk_at dksX4_pool_0 1 rfl rfl)
theorem dX4_pool_2 : decode cX4_pool 2 = .ok (.putfield 414, 3) := dk_181 1 158 (dk_at dksX4_pool_0 2 rfl rfl)
theorem dX4_pool_5 : decode cX4_pool 5 = .ok (.aload_n 0, 1) := dk_42 (dk_at dksX4_pool_0 5 rfl rfl)
theorem dX4_pool_6 : decode cX4_pool 6 = .ok (.iload_n 1, 1) := dk_27 (dk_at dksX4_pool_0 6 rfl rfl)
theorem dX4_pool_7 : decode cX4_pool 7 = .ok (.iload_n 2, 1) := dk_28 (dk_at dksX4_pool_0 7 rfl rfl)
theorem dX4_pool_8 : decode cX4_pool 8 = .ok (.invokevirtual 516, 3) := dk_182 2 4 (dk_at dksX4_pool_0 8 rfl rfl)
theorem dX4_pool_11 : decode cX4_pool 11 = .ok (.ifCond .ne 7, 3) := dk_154 0 7 (dk_at dksX4_pool_0 11 rfl rfl)
theorem dX4_pool_14 : decode cX4_pool 14 = .ok (.ldc_w 429, 3) := dk_19 1 173 (dk_at dksX4_pool_0 14 rfl rfl)
theorem dX4_pool_17 : decode cX4_pool 17 = .ok (.ireturn, 1) := dk_172 (dk_at dksX4_pool_0 17 rfl rfl)
theorem dX4_pool_18 : decode cX4_pool 18 = .ok (.aload_n 0, 1) := dk_42 (dk_at dksX4_pool_0 18 rfl rfl)
theorem dX4_pool_19 : decode cX4_pool 19 = .ok (.iload_n 1, 1) := dk_27 (dk_at dksX4_pool_0 19 rfl rfl)
theorem dX4_pool_20 : decode cX4_pool 20 = .ok (.iload_n 2, 1) := dk_28 (dk_at dksX4_pool_0 20 rfl rfl)
theorem dX4_pool_21 : decode cX4_pool 21 = .ok (.invokevirtual 519, 3) := dk_182 2 7 (dk_at dksX4_pool_0 21 rfl rfl)
theorem dX4_pool_24 : decode cX4_pool 24 = .ok (.aload_n 0, 1) := dk_42 (dk_at dksX4_pool_1 0 rfl rfl)
theorem dX4_pool_25 : decode cX4_pool 25 = .ok (.getfield 510, 3) := dk_180 1 254 (dk_at dksX4_pool_1 1 rfl rfl)
theorem dX4_pool_28 : decode cX4_pool 28 = .ok (.ireturn, 1) := dk_172 (dk_at dksX4_pool_1 4 rfl rfl)
abbrev cX4_areTwo : ByteArray := prog_22_method_91_code
def yX4_areTwo : MethodName := ⟨RX4, "areTwo", "(II)Z"⟩
def dkwX4_areTwo_1 : List UInt8 := [167, 0, 4, 3, 172]
abbrev dktX4_areTwo_1 : List UInt8 := dkwX4_areTwo_1 ++ []
def dkwX4_areTwo_0 : List UInt8 := [42, 27, 182, 1, 170, 153, 0, 20, 42, 28, 182, 1, 170, 153, 0, 12, 27, 28, 159, 0, 7, 4]
abbrev dktX4_areTwo_0 : List UInt8 := dkwX4_areTwo_0 ++ dktX4_areTwo_1
theorem dksX4_areTwo_0 : cX4_areTwo.data.toList.drop 0 = dktX4_areTwo_0 := by decide +kernel
theorem dksX4_areTwo_1 : cX4_areTwo.data.toList.drop 22 = dktX4_areTwo_1 := dk_seg dksX4_areTwo_0 22 rfl rfl
theorem dX4_areTwo_0 : decode cX4_areTwo 0 = .ok (.aload_n 0, 1) := dk_42 (dk_at dksX4_areTwo_0 0 rfl rfl)
theorem dX4_areTwo_1 : decode cX4_areTwo 1 = .ok (.iload_n 1, 1) := dk_27 (dk_at dksX4_areTwo_0 1 rfl rfl)
theorem dX4_areTwo_2 : decode cX4_areTwo 2 = .ok (.invokevirtual 426, 3) := dk_182 1 170 (dk_at dksX4_areTwo_0 2 rfl rfl)
theorem dX4_areTwo_5 : decode cX4_areTwo 5 = .ok (.ifCond .eq 20, 3) := dk_153 0 20 (dk_at dksX4_areTwo_0 5 rfl rfl)
theorem dX4_areTwo_8 : decode cX4_areTwo 8 = .ok (.aload_n 0, 1) := dk_42 (dk_at dksX4_areTwo_0 8 rfl rfl)
theorem dX4_areTwo_9 : decode cX4_areTwo 9 = .ok (.iload_n 2, 1) := dk_28 (dk_at dksX4_areTwo_0 9 rfl rfl)
theorem dX4_areTwo_10 : decode cX4_areTwo 10 = .ok (.invokevirtual 426, 3) := dk_182 1 170 (dk_at dksX4_areTwo_0 10 rfl rfl)
theorem dX4_areTwo_13 : decode cX4_areTwo 13 = .ok (.ifCond .eq 12, 3) := dk_153 0 12 (dk_at dksX4_areTwo_0 13 rfl rfl)
theorem dX4_areTwo_16 : decode cX4_areTwo 16 = .ok (.iload_n 1, 1) := dk_27 (dk_at dksX4_areTwo_0 16 rfl rfl)
theorem dX4_areTwo_17 : decode cX4_areTwo 17 = .ok (.iload_n 2, 1) := dk_28 (dk_at dksX4_areTwo_0 17 rfl rfl)
theorem dX4_areTwo_18 : decode cX4_areTwo 18 = .ok (.if_icmp .eq 7, 3) := dk_159 0 7 (dk_at dksX4_areTwo_0 18 rfl rfl)
theorem dX4_areTwo_21 : decode cX4_areTwo 21 = .ok (.iconst 1, 1) := dk_4 (dk_at dksX4_areTwo_0 21 rfl rfl)
theorem dX4_areTwo_22 : decode cX4_areTwo 22 = .ok (.goto 4, 3) := dk_167 0 4 (dk_at dksX4_areTwo_1 0 rfl rfl)
theorem dX4_areTwo_25 : decode cX4_areTwo 25 = .ok (.iconst 0, 1) := dk_3 (dk_at dksX4_areTwo_1 3 rfl rfl)
theorem dX4_areTwo_26 : decode cX4_areTwo 26 = .ok (.ireturn, 1) := dk_172 (dk_at dksX4_areTwo_1 4 rfl rfl)
abbrev cX4_layPool : ByteArray := prog_22_method_90_code
def yX4_layPool : MethodName := ⟨RX4, "layPool", "(II)V"⟩
def dkwX4_layPool_10 : List UInt8 := [42, 180, 0, 20, 42, 180, 1, 45, 46, 104, 181, 1, 158, 177]
abbrev dktX4_layPool_10 : List UInt8 := dkwX4_layPool_10 ++ []
def dkwX4_layPool_9 : List UInt8 := [180, 0, 131, 21, 4, 42, 180, 0, 119, 21, 4, 46, 79, 132, 4, 1, 167, 255, 233, 167, 255, 105, 42, 5]
abbrev dktX4_layPool_9 : List UInt8 := dkwX4_layPool_9 ++ dktX4_layPool_10
def dkwX4_layPool_8 : List UInt8 := [6, 42, 27, 182, 1, 186, 184, 1, 196, 182, 1, 234, 62, 3, 54, 4, 21, 4, 6, 162, 0, 23, 42]
abbrev dktX4_layPool_8 : List UInt8 := dkwX4_layPool_8 ++ dktX4_layPool_9
def dkwX4_layPool_7 : List UInt8 := [180, 0, 119, 21, 4, 42, 180, 0, 131, 21, 4, 46, 79, 132, 4, 1, 167, 255, 218, 42, 42, 180, 0, 134]
abbrev dktX4_layPool_7 : List UInt8 := dkwX4_layPool_7 ++ dktX4_layPool_8
def dkwX4_layPool_6 : List UInt8 := [54, 4, 21, 4, 6, 162, 0, 38, 42, 27, 21, 4, 42, 180, 0, 131, 21, 4, 46, 2, 182, 1, 192, 42]
abbrev dktX4_layPool_6 : List UInt8 := dkwX4_layPool_6 ++ dktX4_layPool_7
def dkwX4_layPool_5 : List UInt8 := [180, 0, 131, 3, 46, 42, 180, 0, 131, 4, 46, 96, 42, 180, 0, 131, 5, 46, 96, 182, 2, 1, 3]
abbrev dktX4_layPool_5 : List UInt8 := dkwX4_layPool_5 ++ dktX4_layPool_6
def dkwX4_layPool_4 : List UInt8 := [21, 4, 42, 180, 0, 131, 21, 4, 46, 4, 182, 1, 192, 132, 4, 1, 167, 255, 232, 42, 27, 28, 42]
abbrev dktX4_layPool_4 : List UInt8 := dkwX4_layPool_4 ++ dktX4_layPool_5
def dkwX4_layPool_3 : List UInt8 := [132, 3, 1, 167, 255, 241, 4, 62, 29, 153, 0, 153, 3, 54, 4, 21, 4, 6, 162, 0, 24, 42, 27]
abbrev dktX4_layPool_3 : List UInt8 := dkwX4_layPool_3 ++ dktX4_layPool_4
def dkwX4_layPool_2 : List UInt8 := [167, 255, 212, 42, 2, 181, 1, 251, 3, 62, 29, 6, 162, 0, 16, 42, 180, 0, 131, 29, 3, 79]
abbrev dktX4_layPool_2 : List UInt8 := dkwX4_layPool_2 ++ dktX4_layPool_3
def dkwX4_layPool_1 : List UInt8 := [162, 0, 19, 42, 27, 29, 182, 1, 183, 42, 28, 29, 182, 1, 183, 96, 167, 0, 4, 3, 79, 132, 3, 1]
abbrev dktX4_layPool_1 : List UInt8 := dkwX4_layPool_1 ++ dktX4_layPool_2
def dkwX4_layPool_0 : List UInt8 := [3, 62, 29, 6, 162, 0, 45, 42, 180, 0, 134, 29, 29, 42, 180, 0, 20, 42, 180, 1, 45, 46]
abbrev dktX4_layPool_0 : List UInt8 := dkwX4_layPool_0 ++ dktX4_layPool_1
theorem dksX4_layPool_0 : cX4_layPool.data.toList.drop 0 = dktX4_layPool_0 := by decide +kernel
theorem dksX4_layPool_1 : cX4_layPool.data.toList.drop 22 = dktX4_layPool_1 := dk_seg dksX4_layPool_0 22 rfl rfl
theorem dksX4_layPool_2 : cX4_layPool.data.toList.drop 46 = dktX4_layPool_2 := dk_seg dksX4_layPool_1 24 rfl rfl
theorem dksX4_layPool_3 : cX4_layPool.data.toList.drop 68 = dktX4_layPool_3 := dk_seg dksX4_layPool_2 22 rfl rfl
theorem dksX4_layPool_4 : cX4_layPool.data.toList.drop 91 = dktX4_layPool_4 := dk_seg dksX4_layPool_3 23 rfl rfl
theorem dksX4_layPool_5 : cX4_layPool.data.toList.drop 114 = dktX4_layPool_5 := dk_seg dksX4_layPool_4 23 rfl rfl
theorem dksX4_layPool_6 : cX4_layPool.data.toList.drop 137 = dktX4_layPool_6 := dk_seg dksX4_layPool_5 23 rfl rfl
theorem dksX4_layPool_7 : cX4_layPool.data.toList.drop 161 = dktX4_layPool_7 := dk_seg dksX4_layPool_6 24 rfl rfl
theorem dksX4_layPool_8 : cX4_layPool.data.toList.drop 185 = dktX4_layPool_8 := dk_seg dksX4_layPool_7 24 rfl rfl
theorem dksX4_layPool_9 : cX4_layPool.data.toList.drop 208 = dktX4_layPool_9 := dk_seg dksX4_layPool_8 23 rfl rfl
theorem dksX4_layPool_10 : cX4_layPool.data.toList.drop 232 = dktX4_layPool_10 := dk_seg dksX4_layPool_9 24 rfl rfl
theorem dX4_layPool_0 : decode cX4_layPool 0 = .ok (.iconst 0, 1) := dk_3 (dk_at dksX4_layPool_0 0 rfl rfl)
theorem dX4_layPool_1 : decode cX4_layPool 1 = .ok (.istore_n 3, 1) := dk_62 (dk_at dksX4_layPool_0 1 rfl rfl)
theorem dX4_layPool_2 : decode cX4_layPool 2 = .ok (.iload_n 3, 1) := dk_29 (dk_at dksX4_layPool_0 2 rfl rfl)
theorem dX4_layPool_3 : decode cX4_layPool 3 = .ok (.iconst 3, 1) := dk_6 (dk_at dksX4_layPool_0 3 rfl rfl)
theorem dX4_layPool_4 : decode cX4_layPool 4 = .ok (.if_icmp .ge 45, 3) := dk_162 0 45 (dk_at dksX4_layPool_0 4 rfl rfl)
theorem dX4_layPool_7 : decode cX4_layPool 7 = .ok (.aload_n 0, 1) := dk_42 (dk_at dksX4_layPool_0 7 rfl rfl)
theorem dX4_layPool_8 : decode cX4_layPool 8 = .ok (.getfield 134, 3) := dk_180 0 134 (dk_at dksX4_layPool_0 8 rfl rfl)
theorem dX4_layPool_11 : decode cX4_layPool 11 = .ok (.iload_n 3, 1) := dk_29 (dk_at dksX4_layPool_0 11 rfl rfl)
theorem dX4_layPool_12 : decode cX4_layPool 12 = .ok (.iload_n 3, 1) := dk_29 (dk_at dksX4_layPool_0 12 rfl rfl)
theorem dX4_layPool_13 : decode cX4_layPool 13 = .ok (.aload_n 0, 1) := dk_42 (dk_at dksX4_layPool_0 13 rfl rfl)
theorem dX4_layPool_14 : decode cX4_layPool 14 = .ok (.getfield 20, 3) := dk_180 0 20 (dk_at dksX4_layPool_0 14 rfl rfl)
theorem dX4_layPool_17 : decode cX4_layPool 17 = .ok (.aload_n 0, 1) := dk_42 (dk_at dksX4_layPool_0 17 rfl rfl)
theorem dX4_layPool_18 : decode cX4_layPool 18 = .ok (.getfield 301, 3) := dk_180 1 45 (dk_at dksX4_layPool_0 18 rfl rfl)
theorem dX4_layPool_21 : decode cX4_layPool 21 = .ok (.iaload, 1) := dk_46 (dk_at dksX4_layPool_0 21 rfl rfl)
theorem dX4_layPool_22 : decode cX4_layPool 22 = .ok (.if_icmp .ge 19, 3) := dk_162 0 19 (dk_at dksX4_layPool_1 0 rfl rfl)
theorem dX4_layPool_25 : decode cX4_layPool 25 = .ok (.aload_n 0, 1) := dk_42 (dk_at dksX4_layPool_1 3 rfl rfl)
theorem dX4_layPool_26 : decode cX4_layPool 26 = .ok (.iload_n 1, 1) := dk_27 (dk_at dksX4_layPool_1 4 rfl rfl)
theorem dX4_layPool_27 : decode cX4_layPool 27 = .ok (.iload_n 3, 1) := dk_29 (dk_at dksX4_layPool_1 5 rfl rfl)
theorem dX4_layPool_28 : decode cX4_layPool 28 = .ok (.invokevirtual 439, 3) := dk_182 1 183 (dk_at dksX4_layPool_1 6 rfl rfl)
theorem dX4_layPool_31 : decode cX4_layPool 31 = .ok (.aload_n 0, 1) := dk_42 (dk_at dksX4_layPool_1 9 rfl rfl)
theorem dX4_layPool_32 : decode cX4_layPool 32 = .ok (.iload_n 2, 1) := dk_28 (dk_at dksX4_layPool_1 10 rfl rfl)
theorem dX4_layPool_33 : decode cX4_layPool 33 = .ok (.iload_n 3, 1) := dk_29 (dk_at dksX4_layPool_1 11 rfl rfl)
theorem dX4_layPool_34 : decode cX4_layPool 34 = .ok (.invokevirtual 439, 3) := dk_182 1 183 (dk_at dksX4_layPool_1 12 rfl rfl)
theorem dX4_layPool_37 : decode cX4_layPool 37 = .ok (.iadd, 1) := dk_96 (dk_at dksX4_layPool_1 15 rfl rfl)
theorem dX4_layPool_38 : decode cX4_layPool 38 = .ok (.goto 4, 3) := dk_167 0 4 (dk_at dksX4_layPool_1 16 rfl rfl)
theorem dX4_layPool_41 : decode cX4_layPool 41 = .ok (.iconst 0, 1) := dk_3 (dk_at dksX4_layPool_1 19 rfl rfl)
theorem dX4_layPool_42 : decode cX4_layPool 42 = .ok (.iastore, 1) := dk_79 (dk_at dksX4_layPool_1 20 rfl rfl)
theorem dX4_layPool_43 : decode cX4_layPool 43 = .ok (.iinc 3 1, 3) := dk_132 3 1 (dk_at dksX4_layPool_1 21 rfl rfl)
theorem dX4_layPool_46 : decode cX4_layPool 46 = .ok (.goto (-44), 3) := dk_167 255 212 (dk_at dksX4_layPool_2 0 rfl rfl)
theorem dX4_layPool_49 : decode cX4_layPool 49 = .ok (.aload_n 0, 1) := dk_42 (dk_at dksX4_layPool_2 3 rfl rfl)
theorem dX4_layPool_50 : decode cX4_layPool 50 = .ok (.iconst (-1), 1) := dk_2 (dk_at dksX4_layPool_2 4 rfl rfl)
theorem dX4_layPool_51 : decode cX4_layPool 51 = .ok (.putfield 507, 3) := dk_181 1 251 (dk_at dksX4_layPool_2 5 rfl rfl)
theorem dX4_layPool_54 : decode cX4_layPool 54 = .ok (.iconst 0, 1) := dk_3 (dk_at dksX4_layPool_2 8 rfl rfl)
theorem dX4_layPool_55 : decode cX4_layPool 55 = .ok (.istore_n 3, 1) := dk_62 (dk_at dksX4_layPool_2 9 rfl rfl)
theorem dX4_layPool_56 : decode cX4_layPool 56 = .ok (.iload_n 3, 1) := dk_29 (dk_at dksX4_layPool_2 10 rfl rfl)
theorem dX4_layPool_57 : decode cX4_layPool 57 = .ok (.iconst 3, 1) := dk_6 (dk_at dksX4_layPool_2 11 rfl rfl)
theorem dX4_layPool_58 : decode cX4_layPool 58 = .ok (.if_icmp .ge 16, 3) := dk_162 0 16 (dk_at dksX4_layPool_2 12 rfl rfl)
theorem dX4_layPool_61 : decode cX4_layPool 61 = .ok (.aload_n 0, 1) := dk_42 (dk_at dksX4_layPool_2 15 rfl rfl)
theorem dX4_layPool_62 : decode cX4_layPool 62 = .ok (.getfield 131, 3) := dk_180 0 131 (dk_at dksX4_layPool_2 16 rfl rfl)
theorem dX4_layPool_65 : decode cX4_layPool 65 = .ok (.iload_n 3, 1) := dk_29 (dk_at dksX4_layPool_2 19 rfl rfl)
theorem dX4_layPool_66 : decode cX4_layPool 66 = .ok (.iconst 0, 1) := dk_3 (dk_at dksX4_layPool_2 20 rfl rfl)
theorem dX4_layPool_67 : decode cX4_layPool 67 = .ok (.iastore, 1) := dk_79 (dk_at dksX4_layPool_2 21 rfl rfl)
theorem dX4_layPool_68 : decode cX4_layPool 68 = .ok (.iinc 3 1, 3) := dk_132 3 1 (dk_at dksX4_layPool_3 0 rfl rfl)
theorem dX4_layPool_71 : decode cX4_layPool 71 = .ok (.goto (-15), 3) := dk_167 255 241 (dk_at dksX4_layPool_3 3 rfl rfl)
theorem dX4_layPool_74 : decode cX4_layPool 74 = .ok (.iconst 1, 1) := dk_4 (dk_at dksX4_layPool_3 6 rfl rfl)
theorem dX4_layPool_75 : decode cX4_layPool 75 = .ok (.istore_n 3, 1) := dk_62 (dk_at dksX4_layPool_3 7 rfl rfl)
theorem dX4_layPool_76 : decode cX4_layPool 76 = .ok (.iload_n 3, 1) := dk_29 (dk_at dksX4_layPool_3 8 rfl rfl)
theorem dX4_layPool_77 : decode cX4_layPool 77 = .ok (.ifCond .eq 153, 3) := dk_153 0 153 (dk_at dksX4_layPool_3 9 rfl rfl)
theorem dX4_layPool_80 : decode cX4_layPool 80 = .ok (.iconst 0, 1) := dk_3 (dk_at dksX4_layPool_3 12 rfl rfl)
theorem dX4_layPool_81 : decode cX4_layPool 81 = .ok (.istore 4, 2) := dk_54 4 (dk_at dksX4_layPool_3 13 rfl rfl)
theorem dX4_layPool_83 : decode cX4_layPool 83 = .ok (.iload 4, 2) := dk_21 4 (dk_at dksX4_layPool_3 15 rfl rfl)
theorem dX4_layPool_85 : decode cX4_layPool 85 = .ok (.iconst 3, 1) := dk_6 (dk_at dksX4_layPool_3 17 rfl rfl)
theorem dX4_layPool_86 : decode cX4_layPool 86 = .ok (.if_icmp .ge 24, 3) := dk_162 0 24 (dk_at dksX4_layPool_3 18 rfl rfl)
theorem dX4_layPool_89 : decode cX4_layPool 89 = .ok (.aload_n 0, 1) := dk_42 (dk_at dksX4_layPool_3 21 rfl rfl)
theorem dX4_layPool_90 : decode cX4_layPool 90 = .ok (.iload_n 1, 1) := dk_27 (dk_at dksX4_layPool_3 22 rfl rfl)
theorem dX4_layPool_91 : decode cX4_layPool 91 = .ok (.iload 4, 2) := dk_21 4 (dk_at dksX4_layPool_4 0 rfl rfl)
theorem dX4_layPool_93 : decode cX4_layPool 93 = .ok (.aload_n 0, 1) := dk_42 (dk_at dksX4_layPool_4 2 rfl rfl)
theorem dX4_layPool_94 : decode cX4_layPool 94 = .ok (.getfield 131, 3) := dk_180 0 131 (dk_at dksX4_layPool_4 3 rfl rfl)
theorem dX4_layPool_97 : decode cX4_layPool 97 = .ok (.iload 4, 2) := dk_21 4 (dk_at dksX4_layPool_4 6 rfl rfl)
theorem dX4_layPool_99 : decode cX4_layPool 99 = .ok (.iaload, 1) := dk_46 (dk_at dksX4_layPool_4 8 rfl rfl)
theorem dX4_layPool_100 : decode cX4_layPool 100 = .ok (.iconst 1, 1) := dk_4 (dk_at dksX4_layPool_4 9 rfl rfl)
theorem dX4_layPool_101 : decode cX4_layPool 101 = .ok (.invokevirtual 448, 3) := dk_182 1 192 (dk_at dksX4_layPool_4 10 rfl rfl)
theorem dX4_layPool_104 : decode cX4_layPool 104 = .ok (.iinc 4 1, 3) := dk_132 4 1 (dk_at dksX4_layPool_4 13 rfl rfl)
theorem dX4_layPool_107 : decode cX4_layPool 107 = .ok (.goto (-24), 3) := dk_167 255 232 (dk_at dksX4_layPool_4 16 rfl rfl)
theorem dX4_layPool_110 : decode cX4_layPool 110 = .ok (.aload_n 0, 1) := dk_42 (dk_at dksX4_layPool_4 19 rfl rfl)
theorem dX4_layPool_111 : decode cX4_layPool 111 = .ok (.iload_n 1, 1) := dk_27 (dk_at dksX4_layPool_4 20 rfl rfl)
theorem dX4_layPool_112 : decode cX4_layPool 112 = .ok (.iload_n 2, 1) := dk_28 (dk_at dksX4_layPool_4 21 rfl rfl)
theorem dX4_layPool_113 : decode cX4_layPool 113 = .ok (.aload_n 0, 1) := dk_42 (dk_at dksX4_layPool_4 22 rfl rfl)
theorem dX4_layPool_114 : decode cX4_layPool 114 = .ok (.getfield 131, 3) := dk_180 0 131 (dk_at dksX4_layPool_5 0 rfl rfl)
theorem dX4_layPool_117 : decode cX4_layPool 117 = .ok (.iconst 0, 1) := dk_3 (dk_at dksX4_layPool_5 3 rfl rfl)
theorem dX4_layPool_118 : decode cX4_layPool 118 = .ok (.iaload, 1) := dk_46 (dk_at dksX4_layPool_5 4 rfl rfl)
theorem dX4_layPool_119 : decode cX4_layPool 119 = .ok (.aload_n 0, 1) := dk_42 (dk_at dksX4_layPool_5 5 rfl rfl)
theorem dX4_layPool_120 : decode cX4_layPool 120 = .ok (.getfield 131, 3) := dk_180 0 131 (dk_at dksX4_layPool_5 6 rfl rfl)
theorem dX4_layPool_123 : decode cX4_layPool 123 = .ok (.iconst 1, 1) := dk_4 (dk_at dksX4_layPool_5 9 rfl rfl)
theorem dX4_layPool_124 : decode cX4_layPool 124 = .ok (.iaload, 1) := dk_46 (dk_at dksX4_layPool_5 10 rfl rfl)
theorem dX4_layPool_125 : decode cX4_layPool 125 = .ok (.iadd, 1) := dk_96 (dk_at dksX4_layPool_5 11 rfl rfl)
theorem dX4_layPool_126 : decode cX4_layPool 126 = .ok (.aload_n 0, 1) := dk_42 (dk_at dksX4_layPool_5 12 rfl rfl)
theorem dX4_layPool_127 : decode cX4_layPool 127 = .ok (.getfield 131, 3) := dk_180 0 131 (dk_at dksX4_layPool_5 13 rfl rfl)
theorem dX4_layPool_130 : decode cX4_layPool 130 = .ok (.iconst 2, 1) := dk_5 (dk_at dksX4_layPool_5 16 rfl rfl)
theorem dX4_layPool_131 : decode cX4_layPool 131 = .ok (.iaload, 1) := dk_46 (dk_at dksX4_layPool_5 17 rfl rfl)
theorem dX4_layPool_132 : decode cX4_layPool 132 = .ok (.iadd, 1) := dk_96 (dk_at dksX4_layPool_5 18 rfl rfl)
theorem dX4_layPool_133 : decode cX4_layPool 133 = .ok (.invokevirtual 513, 3) := dk_182 2 1 (dk_at dksX4_layPool_5 19 rfl rfl)
theorem dX4_layPool_136 : decode cX4_layPool 136 = .ok (.iconst 0, 1) := dk_3 (dk_at dksX4_layPool_5 22 rfl rfl)
theorem dX4_layPool_137 : decode cX4_layPool 137 = .ok (.istore 4, 2) := dk_54 4 (dk_at dksX4_layPool_6 0 rfl rfl)
theorem dX4_layPool_139 : decode cX4_layPool 139 = .ok (.iload 4, 2) := dk_21 4 (dk_at dksX4_layPool_6 2 rfl rfl)
theorem dX4_layPool_141 : decode cX4_layPool 141 = .ok (.iconst 3, 1) := dk_6 (dk_at dksX4_layPool_6 4 rfl rfl)
theorem dX4_layPool_142 : decode cX4_layPool 142 = .ok (.if_icmp .ge 38, 3) := dk_162 0 38 (dk_at dksX4_layPool_6 5 rfl rfl)
theorem dX4_layPool_145 : decode cX4_layPool 145 = .ok (.aload_n 0, 1) := dk_42 (dk_at dksX4_layPool_6 8 rfl rfl)
theorem dX4_layPool_146 : decode cX4_layPool 146 = .ok (.iload_n 1, 1) := dk_27 (dk_at dksX4_layPool_6 9 rfl rfl)
theorem dX4_layPool_147 : decode cX4_layPool 147 = .ok (.iload 4, 2) := dk_21 4 (dk_at dksX4_layPool_6 10 rfl rfl)
theorem dX4_layPool_149 : decode cX4_layPool 149 = .ok (.aload_n 0, 1) := dk_42 (dk_at dksX4_layPool_6 12 rfl rfl)
theorem dX4_layPool_150 : decode cX4_layPool 150 = .ok (.getfield 131, 3) := dk_180 0 131 (dk_at dksX4_layPool_6 13 rfl rfl)
theorem dX4_layPool_153 : decode cX4_layPool 153 = .ok (.iload 4, 2) := dk_21 4 (dk_at dksX4_layPool_6 16 rfl rfl)
theorem dX4_layPool_155 : decode cX4_layPool 155 = .ok (.iaload, 1) := dk_46 (dk_at dksX4_layPool_6 18 rfl rfl)
theorem dX4_layPool_156 : decode cX4_layPool 156 = .ok (.iconst (-1), 1) := dk_2 (dk_at dksX4_layPool_6 19 rfl rfl)
theorem dX4_layPool_157 : decode cX4_layPool 157 = .ok (.invokevirtual 448, 3) := dk_182 1 192 (dk_at dksX4_layPool_6 20 rfl rfl)
theorem dX4_layPool_160 : decode cX4_layPool 160 = .ok (.aload_n 0, 1) := dk_42 (dk_at dksX4_layPool_6 23 rfl rfl)
theorem dX4_layPool_161 : decode cX4_layPool 161 = .ok (.getfield 119, 3) := dk_180 0 119 (dk_at dksX4_layPool_7 0 rfl rfl)
theorem dX4_layPool_164 : decode cX4_layPool 164 = .ok (.iload 4, 2) := dk_21 4 (dk_at dksX4_layPool_7 3 rfl rfl)
theorem dX4_layPool_166 : decode cX4_layPool 166 = .ok (.aload_n 0, 1) := dk_42 (dk_at dksX4_layPool_7 5 rfl rfl)
theorem dX4_layPool_167 : decode cX4_layPool 167 = .ok (.getfield 131, 3) := dk_180 0 131 (dk_at dksX4_layPool_7 6 rfl rfl)
theorem dX4_layPool_170 : decode cX4_layPool 170 = .ok (.iload 4, 2) := dk_21 4 (dk_at dksX4_layPool_7 9 rfl rfl)
theorem dX4_layPool_172 : decode cX4_layPool 172 = .ok (.iaload, 1) := dk_46 (dk_at dksX4_layPool_7 11 rfl rfl)
theorem dX4_layPool_173 : decode cX4_layPool 173 = .ok (.iastore, 1) := dk_79 (dk_at dksX4_layPool_7 12 rfl rfl)
theorem dX4_layPool_174 : decode cX4_layPool 174 = .ok (.iinc 4 1, 3) := dk_132 4 1 (dk_at dksX4_layPool_7 13 rfl rfl)
theorem dX4_layPool_177 : decode cX4_layPool 177 = .ok (.goto (-38), 3) := dk_167 255 218 (dk_at dksX4_layPool_7 16 rfl rfl)
theorem dX4_layPool_180 : decode cX4_layPool 180 = .ok (.aload_n 0, 1) := dk_42 (dk_at dksX4_layPool_7 19 rfl rfl)
theorem dX4_layPool_181 : decode cX4_layPool 181 = .ok (.aload_n 0, 1) := dk_42 (dk_at dksX4_layPool_7 20 rfl rfl)
theorem dX4_layPool_182 : decode cX4_layPool 182 = .ok (.getfield 134, 3) := dk_180 0 134 (dk_at dksX4_layPool_7 21 rfl rfl)
theorem dX4_layPool_185 : decode cX4_layPool 185 = .ok (.iconst 3, 1) := dk_6 (dk_at dksX4_layPool_8 0 rfl rfl)
theorem dX4_layPool_186 : decode cX4_layPool 186 = .ok (.aload_n 0, 1) := dk_42 (dk_at dksX4_layPool_8 1 rfl rfl)
theorem dX4_layPool_187 : decode cX4_layPool 187 = .ok (.iload_n 1, 1) := dk_27 (dk_at dksX4_layPool_8 2 rfl rfl)
theorem dX4_layPool_188 : decode cX4_layPool 188 = .ok (.invokevirtual 442, 3) := dk_182 1 186 (dk_at dksX4_layPool_8 3 rfl rfl)
theorem dX4_layPool_191 : decode cX4_layPool 191 = .ok (.invokestatic 452, 3) := dk_184 1 196 (dk_at dksX4_layPool_8 6 rfl rfl)
theorem dX4_layPool_194 : decode cX4_layPool 194 = .ok (.invokevirtual 490, 3) := dk_182 1 234 (dk_at dksX4_layPool_8 9 rfl rfl)
theorem dX4_layPool_197 : decode cX4_layPool 197 = .ok (.istore_n 3, 1) := dk_62 (dk_at dksX4_layPool_8 12 rfl rfl)
theorem dX4_layPool_198 : decode cX4_layPool 198 = .ok (.iconst 0, 1) := dk_3 (dk_at dksX4_layPool_8 13 rfl rfl)
theorem dX4_layPool_199 : decode cX4_layPool 199 = .ok (.istore 4, 2) := dk_54 4 (dk_at dksX4_layPool_8 14 rfl rfl)
theorem dX4_layPool_201 : decode cX4_layPool 201 = .ok (.iload 4, 2) := dk_21 4 (dk_at dksX4_layPool_8 16 rfl rfl)
theorem dX4_layPool_203 : decode cX4_layPool 203 = .ok (.iconst 3, 1) := dk_6 (dk_at dksX4_layPool_8 18 rfl rfl)
theorem dX4_layPool_204 : decode cX4_layPool 204 = .ok (.if_icmp .ge 23, 3) := dk_162 0 23 (dk_at dksX4_layPool_8 19 rfl rfl)
theorem dX4_layPool_207 : decode cX4_layPool 207 = .ok (.aload_n 0, 1) := dk_42 (dk_at dksX4_layPool_8 22 rfl rfl)
theorem dX4_layPool_208 : decode cX4_layPool 208 = .ok (.getfield 131, 3) := dk_180 0 131 (dk_at dksX4_layPool_9 0 rfl rfl)
theorem dX4_layPool_211 : decode cX4_layPool 211 = .ok (.iload 4, 2) := dk_21 4 (dk_at dksX4_layPool_9 3 rfl rfl)
theorem dX4_layPool_213 : decode cX4_layPool 213 = .ok (.aload_n 0, 1) := dk_42 (dk_at dksX4_layPool_9 5 rfl rfl)
theorem dX4_layPool_214 : decode cX4_layPool 214 = .ok (.getfield 119, 3) := dk_180 0 119 (dk_at dksX4_layPool_9 6 rfl rfl)
theorem dX4_layPool_217 : decode cX4_layPool 217 = .ok (.iload 4, 2) := dk_21 4 (dk_at dksX4_layPool_9 9 rfl rfl)
theorem dX4_layPool_219 : decode cX4_layPool 219 = .ok (.iaload, 1) := dk_46 (dk_at dksX4_layPool_9 11 rfl rfl)
theorem dX4_layPool_220 : decode cX4_layPool 220 = .ok (.iastore, 1) := dk_79 (dk_at dksX4_layPool_9 12 rfl rfl)
theorem dX4_layPool_221 : decode cX4_layPool 221 = .ok (.iinc 4 1, 3) := dk_132 4 1 (dk_at dksX4_layPool_9 13 rfl rfl)
theorem dX4_layPool_224 : decode cX4_layPool 224 = .ok (.goto (-23), 3) := dk_167 255 233 (dk_at dksX4_layPool_9 16 rfl rfl)
theorem dX4_layPool_227 : decode cX4_layPool 227 = .ok (.goto (-151), 3) := dk_167 255 105 (dk_at dksX4_layPool_9 19 rfl rfl)
theorem dX4_layPool_230 : decode cX4_layPool 230 = .ok (.aload_n 0, 1) := dk_42 (dk_at dksX4_layPool_9 22 rfl rfl)
theorem dX4_layPool_231 : decode cX4_layPool 231 = .ok (.iconst 2, 1) := dk_5 (dk_at dksX4_layPool_9 23 rfl rfl)
theorem dX4_layPool_232 : decode cX4_layPool 232 = .ok (.aload_n 0, 1) := dk_42 (dk_at dksX4_layPool_10 0 rfl rfl)
theorem dX4_layPool_233 : decode cX4_layPool 233 = .ok (.getfield 20, 3) := dk_180 0 20 (dk_at dksX4_layPool_10 1 rfl rfl)
theorem dX4_layPool_236 : decode cX4_layPool 236 = .ok (.aload_n 0, 1) := dk_42 (dk_at dksX4_layPool_10 4 rfl rfl)
theorem dX4_layPool_237 : decode cX4_layPool 237 = .ok (.getfield 301, 3) := dk_180 1 45 (dk_at dksX4_layPool_10 5 rfl rfl)
theorem dX4_layPool_240 : decode cX4_layPool 240 = .ok (.iaload, 1) := dk_46 (dk_at dksX4_layPool_10 8 rfl rfl)
theorem dX4_layPool_241 : decode cX4_layPool 241 = .ok (.imul, 1) := dk_104 (dk_at dksX4_layPool_10 9 rfl rfl)
theorem dX4_layPool_242 : decode cX4_layPool 242 = .ok (.putfield 414, 3) := dk_181 1 158 (dk_at dksX4_layPool_10 10 rfl rfl)
theorem dX4_layPool_245 : decode cX4_layPool 245 = .ok (.return_, 1) := dk_177 (dk_at dksX4_layPool_10 13 rfl rfl)
abbrev cX4_layOther : ByteArray := prog_22_method_89_code
def yX4_layOther : MethodName := ⟨RX4, "layOther", "(III)V"⟩
def dkwX4_layOther_8 : List UInt8 := [54, 4, 167, 255, 111, 177]
abbrev dktX4_layOther_8 : List UInt8 := dkwX4_layOther_8 ++ []
def dkwX4_layOther_7 : List UInt8 := [180, 1, 45, 46, 182, 1, 238, 42, 42, 180, 0, 137, 6, 42, 28, 182, 1, 186, 184, 1, 196, 182, 1, 234]
abbrev dktX4_layOther_7 : List UInt8 := dkwX4_layOther_7 ++ dktX4_layOther_8
def dkwX4_layOther_6 : List UInt8 := [181, 1, 251, 42, 42, 180, 0, 131, 3, 182, 1, 238, 42, 42, 180, 0, 119, 42, 180, 0, 20, 42]
abbrev dktX4_layOther_6 : List UInt8 := dkwX4_layOther_6 ++ dktX4_layOther_7
def dkwX4_layOther_5 : List UInt8 := [180, 1, 254, 160, 0, 50, 21, 6, 42, 180, 1, 251, 162, 0, 41, 42, 21, 5, 181, 1, 254, 42, 21, 6]
abbrev dktX4_layOther_5 : List UInt8 := dkwX4_layOther_5 ++ dktX4_layOther_6
def dkwX4_layOther_4 : List UInt8 := [46, 96, 54, 6, 42, 180, 1, 251, 155, 0, 30, 21, 5, 42, 180, 1, 254, 163, 0, 21, 21, 5, 42]
abbrev dktX4_layOther_4 : List UInt8 := dkwX4_layOther_4 ++ dktX4_layOther_5
def dkwX4_layOther_3 : List UInt8 := [2, 182, 1, 228, 29, 42, 180, 0, 119, 3, 46, 96, 42, 180, 0, 119, 4, 46, 96, 42, 180, 0, 119, 5]
abbrev dktX4_layOther_3 : List UInt8 := dkwX4_layOther_3 ++ dktX4_layOther_4
def dkwX4_layOther_2 : List UInt8 := [153, 0, 146, 42, 28, 4, 182, 1, 228, 42, 27, 182, 1, 164, 42, 28, 182, 1, 164, 96, 54, 5, 42, 28]
abbrev dktX4_layOther_2 : List UInt8 := dkwX4_layOther_2 ++ dktX4_layOther_3
def dkwX4_layOther_1 : List UInt8 := [180, 0, 131, 21, 4, 46, 100, 79, 132, 4, 1, 167, 255, 225, 42, 182, 1, 222, 4, 54, 4, 21, 4]
abbrev dktX4_layOther_1 : List UInt8 := dkwX4_layOther_1 ++ dktX4_layOther_2
def dkwX4_layOther_0 : List UInt8 := [3, 54, 4, 21, 4, 6, 162, 0, 31, 42, 180, 0, 137, 21, 4, 42, 180, 0, 134, 21, 4, 46, 42]
abbrev dktX4_layOther_0 : List UInt8 := dkwX4_layOther_0 ++ dktX4_layOther_1
theorem dksX4_layOther_0 : cX4_layOther.data.toList.drop 0 = dktX4_layOther_0 := by decide +kernel
theorem dksX4_layOther_1 : cX4_layOther.data.toList.drop 23 = dktX4_layOther_1 := dk_seg dksX4_layOther_0 23 rfl rfl
theorem dksX4_layOther_2 : cX4_layOther.data.toList.drop 46 = dktX4_layOther_2 := dk_seg dksX4_layOther_1 23 rfl rfl
theorem dksX4_layOther_3 : cX4_layOther.data.toList.drop 70 = dktX4_layOther_3 := dk_seg dksX4_layOther_2 24 rfl rfl
theorem dksX4_layOther_4 : cX4_layOther.data.toList.drop 94 = dktX4_layOther_4 := dk_seg dksX4_layOther_3 24 rfl rfl
theorem dksX4_layOther_5 : cX4_layOther.data.toList.drop 117 = dktX4_layOther_5 := dk_seg dksX4_layOther_4 23 rfl rfl
theorem dksX4_layOther_6 : cX4_layOther.data.toList.drop 141 = dktX4_layOther_6 := dk_seg dksX4_layOther_5 24 rfl rfl
theorem dksX4_layOther_7 : cX4_layOther.data.toList.drop 163 = dktX4_layOther_7 := dk_seg dksX4_layOther_6 22 rfl rfl
theorem dksX4_layOther_8 : cX4_layOther.data.toList.drop 187 = dktX4_layOther_8 := dk_seg dksX4_layOther_7 24 rfl rfl
theorem dX4_layOther_0 : decode cX4_layOther 0 = .ok (.iconst 0, 1) := dk_3 (dk_at dksX4_layOther_0 0 rfl rfl)
theorem dX4_layOther_1 : decode cX4_layOther 1 = .ok (.istore 4, 2) := dk_54 4 (dk_at dksX4_layOther_0 1 rfl rfl)
theorem dX4_layOther_3 : decode cX4_layOther 3 = .ok (.iload 4, 2) := dk_21 4 (dk_at dksX4_layOther_0 3 rfl rfl)
theorem dX4_layOther_5 : decode cX4_layOther 5 = .ok (.iconst 3, 1) := dk_6 (dk_at dksX4_layOther_0 5 rfl rfl)
theorem dX4_layOther_6 : decode cX4_layOther 6 = .ok (.if_icmp .ge 31, 3) := dk_162 0 31 (dk_at dksX4_layOther_0 6 rfl rfl)
theorem dX4_layOther_9 : decode cX4_layOther 9 = .ok (.aload_n 0, 1) := dk_42 (dk_at dksX4_layOther_0 9 rfl rfl)
theorem dX4_layOther_10 : decode cX4_layOther 10 = .ok (.getfield 137, 3) := dk_180 0 137 (dk_at dksX4_layOther_0 10 rfl rfl)
theorem dX4_layOther_13 : decode cX4_layOther 13 = .ok (.iload 4, 2) := dk_21 4 (dk_at dksX4_layOther_0 13 rfl rfl)
theorem dX4_layOther_15 : decode cX4_layOther 15 = .ok (.aload_n 0, 1) := dk_42 (dk_at dksX4_layOther_0 15 rfl rfl)
theorem dX4_layOther_16 : decode cX4_layOther 16 = .ok (.getfield 134, 3) := dk_180 0 134 (dk_at dksX4_layOther_0 16 rfl rfl)
theorem dX4_layOther_19 : decode cX4_layOther 19 = .ok (.iload 4, 2) := dk_21 4 (dk_at dksX4_layOther_0 19 rfl rfl)
theorem dX4_layOther_21 : decode cX4_layOther 21 = .ok (.iaload, 1) := dk_46 (dk_at dksX4_layOther_0 21 rfl rfl)
theorem dX4_layOther_22 : decode cX4_layOther 22 = .ok (.aload_n 0, 1) := dk_42 (dk_at dksX4_layOther_0 22 rfl rfl)
theorem dX4_layOther_23 : decode cX4_layOther 23 = .ok (.getfield 131, 3) := dk_180 0 131 (dk_at dksX4_layOther_1 0 rfl rfl)
theorem dX4_layOther_26 : decode cX4_layOther 26 = .ok (.iload 4, 2) := dk_21 4 (dk_at dksX4_layOther_1 3 rfl rfl)
theorem dX4_layOther_28 : decode cX4_layOther 28 = .ok (.iaload, 1) := dk_46 (dk_at dksX4_layOther_1 5 rfl rfl)
theorem dX4_layOther_29 : decode cX4_layOther 29 = .ok (.isub, 1) := dk_100 (dk_at dksX4_layOther_1 6 rfl rfl)
theorem dX4_layOther_30 : decode cX4_layOther 30 = .ok (.iastore, 1) := dk_79 (dk_at dksX4_layOther_1 7 rfl rfl)
theorem dX4_layOther_31 : decode cX4_layOther 31 = .ok (.iinc 4 1, 3) := dk_132 4 1 (dk_at dksX4_layOther_1 8 rfl rfl)
theorem dX4_layOther_34 : decode cX4_layOther 34 = .ok (.goto (-31), 3) := dk_167 255 225 (dk_at dksX4_layOther_1 11 rfl rfl)
theorem dX4_layOther_37 : decode cX4_layOther 37 = .ok (.aload_n 0, 1) := dk_42 (dk_at dksX4_layOther_1 14 rfl rfl)
theorem dX4_layOther_38 : decode cX4_layOther 38 = .ok (.invokevirtual 478, 3) := dk_182 1 222 (dk_at dksX4_layOther_1 15 rfl rfl)
theorem dX4_layOther_41 : decode cX4_layOther 41 = .ok (.iconst 1, 1) := dk_4 (dk_at dksX4_layOther_1 18 rfl rfl)
theorem dX4_layOther_42 : decode cX4_layOther 42 = .ok (.istore 4, 2) := dk_54 4 (dk_at dksX4_layOther_1 19 rfl rfl)
theorem dX4_layOther_44 : decode cX4_layOther 44 = .ok (.iload 4, 2) := dk_21 4 (dk_at dksX4_layOther_1 21 rfl rfl)
theorem dX4_layOther_46 : decode cX4_layOther 46 = .ok (.ifCond .eq 146, 3) := dk_153 0 146 (dk_at dksX4_layOther_2 0 rfl rfl)
theorem dX4_layOther_49 : decode cX4_layOther 49 = .ok (.aload_n 0, 1) := dk_42 (dk_at dksX4_layOther_2 3 rfl rfl)
theorem dX4_layOther_50 : decode cX4_layOther 50 = .ok (.iload_n 2, 1) := dk_28 (dk_at dksX4_layOther_2 4 rfl rfl)
theorem dX4_layOther_51 : decode cX4_layOther 51 = .ok (.iconst 1, 1) := dk_4 (dk_at dksX4_layOther_2 5 rfl rfl)
theorem dX4_layOther_52 : decode cX4_layOther 52 = .ok (.invokevirtual 484, 3) := dk_182 1 228 (dk_at dksX4_layOther_2 6 rfl rfl)
theorem dX4_layOther_55 : decode cX4_layOther 55 = .ok (.aload_n 0, 1) := dk_42 (dk_at dksX4_layOther_2 9 rfl rfl)
theorem dX4_layOther_56 : decode cX4_layOther 56 = .ok (.iload_n 1, 1) := dk_27 (dk_at dksX4_layOther_2 10 rfl rfl)
theorem dX4_layOther_57 : decode cX4_layOther 57 = .ok (.invokevirtual 420, 3) := dk_182 1 164 (dk_at dksX4_layOther_2 11 rfl rfl)
theorem dX4_layOther_60 : decode cX4_layOther 60 = .ok (.aload_n 0, 1) := dk_42 (dk_at dksX4_layOther_2 14 rfl rfl)
theorem dX4_layOther_61 : decode cX4_layOther 61 = .ok (.iload_n 2, 1) := dk_28 (dk_at dksX4_layOther_2 15 rfl rfl)
theorem dX4_layOther_62 : decode cX4_layOther 62 = .ok (.invokevirtual 420, 3) := dk_182 1 164 (dk_at dksX4_layOther_2 16 rfl rfl)
theorem dX4_layOther_65 : decode cX4_layOther 65 = .ok (.iadd, 1) := dk_96 (dk_at dksX4_layOther_2 19 rfl rfl)
theorem dX4_layOther_66 : decode cX4_layOther 66 = .ok (.istore 5, 2) := dk_54 5 (dk_at dksX4_layOther_2 20 rfl rfl)
theorem dX4_layOther_68 : decode cX4_layOther 68 = .ok (.aload_n 0, 1) := dk_42 (dk_at dksX4_layOther_2 22 rfl rfl)
theorem dX4_layOther_69 : decode cX4_layOther 69 = .ok (.iload_n 2, 1) := dk_28 (dk_at dksX4_layOther_2 23 rfl rfl)
theorem dX4_layOther_70 : decode cX4_layOther 70 = .ok (.iconst (-1), 1) := dk_2 (dk_at dksX4_layOther_3 0 rfl rfl)
theorem dX4_layOther_71 : decode cX4_layOther 71 = .ok (.invokevirtual 484, 3) := dk_182 1 228 (dk_at dksX4_layOther_3 1 rfl rfl)
theorem dX4_layOther_74 : decode cX4_layOther 74 = .ok (.iload_n 3, 1) := dk_29 (dk_at dksX4_layOther_3 4 rfl rfl)
theorem dX4_layOther_75 : decode cX4_layOther 75 = .ok (.aload_n 0, 1) := dk_42 (dk_at dksX4_layOther_3 5 rfl rfl)
theorem dX4_layOther_76 : decode cX4_layOther 76 = .ok (.getfield 119, 3) := dk_180 0 119 (dk_at dksX4_layOther_3 6 rfl rfl)
theorem dX4_layOther_79 : decode cX4_layOther 79 = .ok (.iconst 0, 1) := dk_3 (dk_at dksX4_layOther_3 9 rfl rfl)
theorem dX4_layOther_80 : decode cX4_layOther 80 = .ok (.iaload, 1) := dk_46 (dk_at dksX4_layOther_3 10 rfl rfl)
theorem dX4_layOther_81 : decode cX4_layOther 81 = .ok (.iadd, 1) := dk_96 (dk_at dksX4_layOther_3 11 rfl rfl)
theorem dX4_layOther_82 : decode cX4_layOther 82 = .ok (.aload_n 0, 1) := dk_42 (dk_at dksX4_layOther_3 12 rfl rfl)
theorem dX4_layOther_83 : decode cX4_layOther 83 = .ok (.getfield 119, 3) := dk_180 0 119 (dk_at dksX4_layOther_3 13 rfl rfl)
theorem dX4_layOther_86 : decode cX4_layOther 86 = .ok (.iconst 1, 1) := dk_4 (dk_at dksX4_layOther_3 16 rfl rfl)
theorem dX4_layOther_87 : decode cX4_layOther 87 = .ok (.iaload, 1) := dk_46 (dk_at dksX4_layOther_3 17 rfl rfl)
theorem dX4_layOther_88 : decode cX4_layOther 88 = .ok (.iadd, 1) := dk_96 (dk_at dksX4_layOther_3 18 rfl rfl)
theorem dX4_layOther_89 : decode cX4_layOther 89 = .ok (.aload_n 0, 1) := dk_42 (dk_at dksX4_layOther_3 19 rfl rfl)
theorem dX4_layOther_90 : decode cX4_layOther 90 = .ok (.getfield 119, 3) := dk_180 0 119 (dk_at dksX4_layOther_3 20 rfl rfl)
theorem dX4_layOther_93 : decode cX4_layOther 93 = .ok (.iconst 2, 1) := dk_5 (dk_at dksX4_layOther_3 23 rfl rfl)
theorem dX4_layOther_94 : decode cX4_layOther 94 = .ok (.iaload, 1) := dk_46 (dk_at dksX4_layOther_4 0 rfl rfl)
theorem dX4_layOther_95 : decode cX4_layOther 95 = .ok (.iadd, 1) := dk_96 (dk_at dksX4_layOther_4 1 rfl rfl)
theorem dX4_layOther_96 : decode cX4_layOther 96 = .ok (.istore 6, 2) := dk_54 6 (dk_at dksX4_layOther_4 2 rfl rfl)
theorem dX4_layOther_98 : decode cX4_layOther 98 = .ok (.aload_n 0, 1) := dk_42 (dk_at dksX4_layOther_4 4 rfl rfl)
theorem dX4_layOther_99 : decode cX4_layOther 99 = .ok (.getfield 507, 3) := dk_180 1 251 (dk_at dksX4_layOther_4 5 rfl rfl)
theorem dX4_layOther_102 : decode cX4_layOther 102 = .ok (.ifCond .lt 30, 3) := dk_155 0 30 (dk_at dksX4_layOther_4 8 rfl rfl)
theorem dX4_layOther_105 : decode cX4_layOther 105 = .ok (.iload 5, 2) := dk_21 5 (dk_at dksX4_layOther_4 11 rfl rfl)
theorem dX4_layOther_107 : decode cX4_layOther 107 = .ok (.aload_n 0, 1) := dk_42 (dk_at dksX4_layOther_4 13 rfl rfl)
theorem dX4_layOther_108 : decode cX4_layOther 108 = .ok (.getfield 510, 3) := dk_180 1 254 (dk_at dksX4_layOther_4 14 rfl rfl)
theorem dX4_layOther_111 : decode cX4_layOther 111 = .ok (.if_icmp .gt 21, 3) := dk_163 0 21 (dk_at dksX4_layOther_4 17 rfl rfl)
theorem dX4_layOther_114 : decode cX4_layOther 114 = .ok (.iload 5, 2) := dk_21 5 (dk_at dksX4_layOther_4 20 rfl rfl)
theorem dX4_layOther_116 : decode cX4_layOther 116 = .ok (.aload_n 0, 1) := dk_42 (dk_at dksX4_layOther_4 22 rfl rfl)
theorem dX4_layOther_117 : decode cX4_layOther 117 = .ok (.getfield 510, 3) := dk_180 1 254 (dk_at dksX4_layOther_5 0 rfl rfl)
theorem dX4_layOther_120 : decode cX4_layOther 120 = .ok (.if_icmp .ne 50, 3) := dk_160 0 50 (dk_at dksX4_layOther_5 3 rfl rfl)
theorem dX4_layOther_123 : decode cX4_layOther 123 = .ok (.iload 6, 2) := dk_21 6 (dk_at dksX4_layOther_5 6 rfl rfl)
theorem dX4_layOther_125 : decode cX4_layOther 125 = .ok (.aload_n 0, 1) := dk_42 (dk_at dksX4_layOther_5 8 rfl rfl)
theorem dX4_layOther_126 : decode cX4_layOther 126 = .ok (.getfield 507, 3) := dk_180 1 251 (dk_at dksX4_layOther_5 9 rfl rfl)
theorem dX4_layOther_129 : decode cX4_layOther 129 = .ok (.if_icmp .ge 41, 3) := dk_162 0 41 (dk_at dksX4_layOther_5 12 rfl rfl)
theorem dX4_layOther_132 : decode cX4_layOther 132 = .ok (.aload_n 0, 1) := dk_42 (dk_at dksX4_layOther_5 15 rfl rfl)
theorem dX4_layOther_133 : decode cX4_layOther 133 = .ok (.iload 5, 2) := dk_21 5 (dk_at dksX4_layOther_5 16 rfl rfl)
theorem dX4_layOther_135 : decode cX4_layOther 135 = .ok (.putfield 510, 3) := dk_181 1 254 (dk_at dksX4_layOther_5 18 rfl rfl)
theorem dX4_layOther_138 : decode cX4_layOther 138 = .ok (.aload_n 0, 1) := dk_42 (dk_at dksX4_layOther_5 21 rfl rfl)
theorem dX4_layOther_139 : decode cX4_layOther 139 = .ok (.iload 6, 2) := dk_21 6 (dk_at dksX4_layOther_5 22 rfl rfl)
theorem dX4_layOther_141 : decode cX4_layOther 141 = .ok (.putfield 507, 3) := dk_181 1 251 (dk_at dksX4_layOther_6 0 rfl rfl)
theorem dX4_layOther_144 : decode cX4_layOther 144 = .ok (.aload_n 0, 1) := dk_42 (dk_at dksX4_layOther_6 3 rfl rfl)
theorem dX4_layOther_145 : decode cX4_layOther 145 = .ok (.aload_n 0, 1) := dk_42 (dk_at dksX4_layOther_6 4 rfl rfl)
theorem dX4_layOther_146 : decode cX4_layOther 146 = .ok (.getfield 131, 3) := dk_180 0 131 (dk_at dksX4_layOther_6 5 rfl rfl)
theorem dX4_layOther_149 : decode cX4_layOther 149 = .ok (.iconst 0, 1) := dk_3 (dk_at dksX4_layOther_6 8 rfl rfl)
theorem dX4_layOther_150 : decode cX4_layOther 150 = .ok (.invokevirtual 494, 3) := dk_182 1 238 (dk_at dksX4_layOther_6 9 rfl rfl)
theorem dX4_layOther_153 : decode cX4_layOther 153 = .ok (.aload_n 0, 1) := dk_42 (dk_at dksX4_layOther_6 12 rfl rfl)
theorem dX4_layOther_154 : decode cX4_layOther 154 = .ok (.aload_n 0, 1) := dk_42 (dk_at dksX4_layOther_6 13 rfl rfl)
theorem dX4_layOther_155 : decode cX4_layOther 155 = .ok (.getfield 119, 3) := dk_180 0 119 (dk_at dksX4_layOther_6 14 rfl rfl)
theorem dX4_layOther_158 : decode cX4_layOther 158 = .ok (.aload_n 0, 1) := dk_42 (dk_at dksX4_layOther_6 17 rfl rfl)
theorem dX4_layOther_159 : decode cX4_layOther 159 = .ok (.getfield 20, 3) := dk_180 0 20 (dk_at dksX4_layOther_6 18 rfl rfl)
theorem dX4_layOther_162 : decode cX4_layOther 162 = .ok (.aload_n 0, 1) := dk_42 (dk_at dksX4_layOther_6 21 rfl rfl)
theorem dX4_layOther_163 : decode cX4_layOther 163 = .ok (.getfield 301, 3) := dk_180 1 45 (dk_at dksX4_layOther_7 0 rfl rfl)
theorem dX4_layOther_166 : decode cX4_layOther 166 = .ok (.iaload, 1) := dk_46 (dk_at dksX4_layOther_7 3 rfl rfl)
theorem dX4_layOther_167 : decode cX4_layOther 167 = .ok (.invokevirtual 494, 3) := dk_182 1 238 (dk_at dksX4_layOther_7 4 rfl rfl)
theorem dX4_layOther_170 : decode cX4_layOther 170 = .ok (.aload_n 0, 1) := dk_42 (dk_at dksX4_layOther_7 7 rfl rfl)
theorem dX4_layOther_171 : decode cX4_layOther 171 = .ok (.aload_n 0, 1) := dk_42 (dk_at dksX4_layOther_7 8 rfl rfl)
theorem dX4_layOther_172 : decode cX4_layOther 172 = .ok (.getfield 137, 3) := dk_180 0 137 (dk_at dksX4_layOther_7 9 rfl rfl)
theorem dX4_layOther_175 : decode cX4_layOther 175 = .ok (.iconst 3, 1) := dk_6 (dk_at dksX4_layOther_7 12 rfl rfl)
theorem dX4_layOther_176 : decode cX4_layOther 176 = .ok (.aload_n 0, 1) := dk_42 (dk_at dksX4_layOther_7 13 rfl rfl)
theorem dX4_layOther_177 : decode cX4_layOther 177 = .ok (.iload_n 2, 1) := dk_28 (dk_at dksX4_layOther_7 14 rfl rfl)
theorem dX4_layOther_178 : decode cX4_layOther 178 = .ok (.invokevirtual 442, 3) := dk_182 1 186 (dk_at dksX4_layOther_7 15 rfl rfl)
theorem dX4_layOther_181 : decode cX4_layOther 181 = .ok (.invokestatic 452, 3) := dk_184 1 196 (dk_at dksX4_layOther_7 18 rfl rfl)
theorem dX4_layOther_184 : decode cX4_layOther 184 = .ok (.invokevirtual 490, 3) := dk_182 1 234 (dk_at dksX4_layOther_7 21 rfl rfl)
theorem dX4_layOther_187 : decode cX4_layOther 187 = .ok (.istore 4, 2) := dk_54 4 (dk_at dksX4_layOther_8 0 rfl rfl)
theorem dX4_layOther_189 : decode cX4_layOther 189 = .ok (.goto (-145), 3) := dk_167 255 111 (dk_at dksX4_layOther_8 2 rfl rfl)
theorem dX4_layOther_192 : decode cX4_layOther 192 = .ok (.return_, 1) := dk_177 (dk_at dksX4_layOther_8 5 rfl rfl)
abbrev cX4_joint : ByteArray := prog_22_method_95_code
def yX4_joint : MethodName := ⟨RX4, "joint", "(II)I"⟩
def dkwX4_joint_6 : List UInt8 := [172]
abbrev dktX4_joint_6 : List UInt8 := dkwX4_joint_6 ++ []
def dkwX4_joint_5 : List UInt8 := [42, 27, 182, 1, 164, 42, 28, 182, 1, 164, 96, 54, 4, 42, 182, 2, 13, 42, 180, 1, 254, 21, 4, 100]
abbrev dktX4_joint_5 : List UInt8 := dkwX4_joint_5 ++ dktX4_joint_6
def dkwX4_joint_4 : List UInt8 := [42, 27, 3, 182, 1, 242, 42, 27, 4, 182, 1, 248, 42, 28, 3, 182, 1, 242, 42, 28, 4, 182, 1, 248]
abbrev dktX4_joint_4 : List UInt8 := dkwX4_joint_4 ++ dktX4_joint_5
def dkwX4_joint_3 : List UInt8 := [42, 180, 0, 125, 21, 4, 42, 180, 0, 143, 21, 4, 46, 79, 132, 4, 1, 167, 255, 232, 42, 182, 2, 10]
abbrev dktX4_joint_3 : List UInt8 := dkwX4_joint_3 ++ dktX4_joint_4
def dkwX4_joint_2 : List UInt8 := [167, 255, 232, 42, 27, 28, 182, 2, 7, 42, 29, 181, 1, 158, 3, 54, 4, 21, 4, 16, 8, 162, 0, 23]
abbrev dktX4_joint_2 : List UInt8 := dkwX4_joint_2 ++ dktX4_joint_3
def dkwX4_joint_1 : List UInt8 := [16, 8, 162, 0, 23, 42, 180, 0, 143, 21, 4, 42, 180, 0, 125, 21, 4, 46, 79, 132, 4, 1]
abbrev dktX4_joint_1 : List UInt8 := dkwX4_joint_1 ++ dktX4_joint_2
def dkwX4_joint_0 : List UInt8 := [42, 27, 28, 182, 2, 4, 154, 0, 7, 19, 1, 173, 172, 42, 180, 1, 158, 62, 3, 54, 4, 21, 4]
abbrev dktX4_joint_0 : List UInt8 := dkwX4_joint_0 ++ dktX4_joint_1
theorem dksX4_joint_0 : cX4_joint.data.toList.drop 0 = dktX4_joint_0 := by decide +kernel
theorem dksX4_joint_1 : cX4_joint.data.toList.drop 23 = dktX4_joint_1 := dk_seg dksX4_joint_0 23 rfl rfl
theorem dksX4_joint_2 : cX4_joint.data.toList.drop 45 = dktX4_joint_2 := dk_seg dksX4_joint_1 22 rfl rfl
theorem dksX4_joint_3 : cX4_joint.data.toList.drop 69 = dktX4_joint_3 := dk_seg dksX4_joint_2 24 rfl rfl
theorem dksX4_joint_4 : cX4_joint.data.toList.drop 93 = dktX4_joint_4 := dk_seg dksX4_joint_3 24 rfl rfl
theorem dksX4_joint_5 : cX4_joint.data.toList.drop 117 = dktX4_joint_5 := dk_seg dksX4_joint_4 24 rfl rfl
theorem dksX4_joint_6 : cX4_joint.data.toList.drop 141 = dktX4_joint_6 := dk_seg dksX4_joint_5 24 rfl rfl
theorem dX4_joint_0 : decode cX4_joint 0 = .ok (.aload_n 0, 1) := dk_42 (dk_at dksX4_joint_0 0 rfl rfl)
theorem dX4_joint_1 : decode cX4_joint 1 = .ok (.iload_n 1, 1) := dk_27 (dk_at dksX4_joint_0 1 rfl rfl)
theorem dX4_joint_2 : decode cX4_joint 2 = .ok (.iload_n 2, 1) := dk_28 (dk_at dksX4_joint_0 2 rfl rfl)
theorem dX4_joint_3 : decode cX4_joint 3 = .ok (.invokevirtual 516, 3) := dk_182 2 4 (dk_at dksX4_joint_0 3 rfl rfl)
theorem dX4_joint_6 : decode cX4_joint 6 = .ok (.ifCond .ne 7, 3) := dk_154 0 7 (dk_at dksX4_joint_0 6 rfl rfl)
theorem dX4_joint_9 : decode cX4_joint 9 = .ok (.ldc_w 429, 3) := dk_19 1 173 (dk_at dksX4_joint_0 9 rfl rfl)
theorem dX4_joint_12 : decode cX4_joint 12 = .ok (.ireturn, 1) := dk_172 (dk_at dksX4_joint_0 12 rfl rfl)
theorem dX4_joint_13 : decode cX4_joint 13 = .ok (.aload_n 0, 1) := dk_42 (dk_at dksX4_joint_0 13 rfl rfl)
theorem dX4_joint_14 : decode cX4_joint 14 = .ok (.getfield 414, 3) := dk_180 1 158 (dk_at dksX4_joint_0 14 rfl rfl)
theorem dX4_joint_17 : decode cX4_joint 17 = .ok (.istore_n 3, 1) := dk_62 (dk_at dksX4_joint_0 17 rfl rfl)
theorem dX4_joint_18 : decode cX4_joint 18 = .ok (.iconst 0, 1) := dk_3 (dk_at dksX4_joint_0 18 rfl rfl)
theorem dX4_joint_19 : decode cX4_joint 19 = .ok (.istore 4, 2) := dk_54 4 (dk_at dksX4_joint_0 19 rfl rfl)
theorem dX4_joint_21 : decode cX4_joint 21 = .ok (.iload 4, 2) := dk_21 4 (dk_at dksX4_joint_0 21 rfl rfl)
theorem dX4_joint_23 : decode cX4_joint 23 = .ok (.bipush 8, 2) := dk_16 8 (dk_at dksX4_joint_1 0 rfl rfl)
theorem dX4_joint_25 : decode cX4_joint 25 = .ok (.if_icmp .ge 23, 3) := dk_162 0 23 (dk_at dksX4_joint_1 2 rfl rfl)
theorem dX4_joint_28 : decode cX4_joint 28 = .ok (.aload_n 0, 1) := dk_42 (dk_at dksX4_joint_1 5 rfl rfl)
theorem dX4_joint_29 : decode cX4_joint 29 = .ok (.getfield 143, 3) := dk_180 0 143 (dk_at dksX4_joint_1 6 rfl rfl)
theorem dX4_joint_32 : decode cX4_joint 32 = .ok (.iload 4, 2) := dk_21 4 (dk_at dksX4_joint_1 9 rfl rfl)
theorem dX4_joint_34 : decode cX4_joint 34 = .ok (.aload_n 0, 1) := dk_42 (dk_at dksX4_joint_1 11 rfl rfl)
theorem dX4_joint_35 : decode cX4_joint 35 = .ok (.getfield 125, 3) := dk_180 0 125 (dk_at dksX4_joint_1 12 rfl rfl)
theorem dX4_joint_38 : decode cX4_joint 38 = .ok (.iload 4, 2) := dk_21 4 (dk_at dksX4_joint_1 15 rfl rfl)
theorem dX4_joint_40 : decode cX4_joint 40 = .ok (.iaload, 1) := dk_46 (dk_at dksX4_joint_1 17 rfl rfl)
theorem dX4_joint_41 : decode cX4_joint 41 = .ok (.iastore, 1) := dk_79 (dk_at dksX4_joint_1 18 rfl rfl)
theorem dX4_joint_42 : decode cX4_joint 42 = .ok (.iinc 4 1, 3) := dk_132 4 1 (dk_at dksX4_joint_1 19 rfl rfl)
theorem dX4_joint_45 : decode cX4_joint 45 = .ok (.goto (-24), 3) := dk_167 255 232 (dk_at dksX4_joint_2 0 rfl rfl)
theorem dX4_joint_48 : decode cX4_joint 48 = .ok (.aload_n 0, 1) := dk_42 (dk_at dksX4_joint_2 3 rfl rfl)
theorem dX4_joint_49 : decode cX4_joint 49 = .ok (.iload_n 1, 1) := dk_27 (dk_at dksX4_joint_2 4 rfl rfl)
theorem dX4_joint_50 : decode cX4_joint 50 = .ok (.iload_n 2, 1) := dk_28 (dk_at dksX4_joint_2 5 rfl rfl)
theorem dX4_joint_51 : decode cX4_joint 51 = .ok (.invokevirtual 519, 3) := dk_182 2 7 (dk_at dksX4_joint_2 6 rfl rfl)
theorem dX4_joint_54 : decode cX4_joint 54 = .ok (.aload_n 0, 1) := dk_42 (dk_at dksX4_joint_2 9 rfl rfl)
theorem dX4_joint_55 : decode cX4_joint 55 = .ok (.iload_n 3, 1) := dk_29 (dk_at dksX4_joint_2 10 rfl rfl)
theorem dX4_joint_56 : decode cX4_joint 56 = .ok (.putfield 414, 3) := dk_181 1 158 (dk_at dksX4_joint_2 11 rfl rfl)
theorem dX4_joint_59 : decode cX4_joint 59 = .ok (.iconst 0, 1) := dk_3 (dk_at dksX4_joint_2 14 rfl rfl)
theorem dX4_joint_60 : decode cX4_joint 60 = .ok (.istore 4, 2) := dk_54 4 (dk_at dksX4_joint_2 15 rfl rfl)
theorem dX4_joint_62 : decode cX4_joint 62 = .ok (.iload 4, 2) := dk_21 4 (dk_at dksX4_joint_2 17 rfl rfl)
theorem dX4_joint_64 : decode cX4_joint 64 = .ok (.bipush 8, 2) := dk_16 8 (dk_at dksX4_joint_2 19 rfl rfl)
theorem dX4_joint_66 : decode cX4_joint 66 = .ok (.if_icmp .ge 23, 3) := dk_162 0 23 (dk_at dksX4_joint_2 21 rfl rfl)
theorem dX4_joint_69 : decode cX4_joint 69 = .ok (.aload_n 0, 1) := dk_42 (dk_at dksX4_joint_3 0 rfl rfl)
theorem dX4_joint_70 : decode cX4_joint 70 = .ok (.getfield 125, 3) := dk_180 0 125 (dk_at dksX4_joint_3 1 rfl rfl)
theorem dX4_joint_73 : decode cX4_joint 73 = .ok (.iload 4, 2) := dk_21 4 (dk_at dksX4_joint_3 4 rfl rfl)
theorem dX4_joint_75 : decode cX4_joint 75 = .ok (.aload_n 0, 1) := dk_42 (dk_at dksX4_joint_3 6 rfl rfl)
theorem dX4_joint_76 : decode cX4_joint 76 = .ok (.getfield 143, 3) := dk_180 0 143 (dk_at dksX4_joint_3 7 rfl rfl)
theorem dX4_joint_79 : decode cX4_joint 79 = .ok (.iload 4, 2) := dk_21 4 (dk_at dksX4_joint_3 10 rfl rfl)
theorem dX4_joint_81 : decode cX4_joint 81 = .ok (.iaload, 1) := dk_46 (dk_at dksX4_joint_3 12 rfl rfl)
theorem dX4_joint_82 : decode cX4_joint 82 = .ok (.iastore, 1) := dk_79 (dk_at dksX4_joint_3 13 rfl rfl)
theorem dX4_joint_83 : decode cX4_joint 83 = .ok (.iinc 4 1, 3) := dk_132 4 1 (dk_at dksX4_joint_3 14 rfl rfl)
theorem dX4_joint_86 : decode cX4_joint 86 = .ok (.goto (-24), 3) := dk_167 255 232 (dk_at dksX4_joint_3 17 rfl rfl)
theorem dX4_joint_89 : decode cX4_joint 89 = .ok (.aload_n 0, 1) := dk_42 (dk_at dksX4_joint_3 20 rfl rfl)
theorem dX4_joint_90 : decode cX4_joint 90 = .ok (.invokevirtual 522, 3) := dk_182 2 10 (dk_at dksX4_joint_3 21 rfl rfl)
theorem dX4_joint_93 : decode cX4_joint 93 = .ok (.aload_n 0, 1) := dk_42 (dk_at dksX4_joint_4 0 rfl rfl)
theorem dX4_joint_94 : decode cX4_joint 94 = .ok (.iload_n 1, 1) := dk_27 (dk_at dksX4_joint_4 1 rfl rfl)
theorem dX4_joint_95 : decode cX4_joint 95 = .ok (.iconst 0, 1) := dk_3 (dk_at dksX4_joint_4 2 rfl rfl)
theorem dX4_joint_96 : decode cX4_joint 96 = .ok (.invokevirtual 498, 3) := dk_182 1 242 (dk_at dksX4_joint_4 3 rfl rfl)
theorem dX4_joint_99 : decode cX4_joint 99 = .ok (.aload_n 0, 1) := dk_42 (dk_at dksX4_joint_4 6 rfl rfl)
theorem dX4_joint_100 : decode cX4_joint 100 = .ok (.iload_n 1, 1) := dk_27 (dk_at dksX4_joint_4 7 rfl rfl)
theorem dX4_joint_101 : decode cX4_joint 101 = .ok (.iconst 1, 1) := dk_4 (dk_at dksX4_joint_4 8 rfl rfl)
theorem dX4_joint_102 : decode cX4_joint 102 = .ok (.invokevirtual 504, 3) := dk_182 1 248 (dk_at dksX4_joint_4 9 rfl rfl)
theorem dX4_joint_105 : decode cX4_joint 105 = .ok (.aload_n 0, 1) := dk_42 (dk_at dksX4_joint_4 12 rfl rfl)
theorem dX4_joint_106 : decode cX4_joint 106 = .ok (.iload_n 2, 1) := dk_28 (dk_at dksX4_joint_4 13 rfl rfl)
theorem dX4_joint_107 : decode cX4_joint 107 = .ok (.iconst 0, 1) := dk_3 (dk_at dksX4_joint_4 14 rfl rfl)
theorem dX4_joint_108 : decode cX4_joint 108 = .ok (.invokevirtual 498, 3) := dk_182 1 242 (dk_at dksX4_joint_4 15 rfl rfl)
theorem dX4_joint_111 : decode cX4_joint 111 = .ok (.aload_n 0, 1) := dk_42 (dk_at dksX4_joint_4 18 rfl rfl)
theorem dX4_joint_112 : decode cX4_joint 112 = .ok (.iload_n 2, 1) := dk_28 (dk_at dksX4_joint_4 19 rfl rfl)
theorem dX4_joint_113 : decode cX4_joint 113 = .ok (.iconst 1, 1) := dk_4 (dk_at dksX4_joint_4 20 rfl rfl)
theorem dX4_joint_114 : decode cX4_joint 114 = .ok (.invokevirtual 504, 3) := dk_182 1 248 (dk_at dksX4_joint_4 21 rfl rfl)
theorem dX4_joint_117 : decode cX4_joint 117 = .ok (.aload_n 0, 1) := dk_42 (dk_at dksX4_joint_5 0 rfl rfl)
theorem dX4_joint_118 : decode cX4_joint 118 = .ok (.iload_n 1, 1) := dk_27 (dk_at dksX4_joint_5 1 rfl rfl)
theorem dX4_joint_119 : decode cX4_joint 119 = .ok (.invokevirtual 420, 3) := dk_182 1 164 (dk_at dksX4_joint_5 2 rfl rfl)
theorem dX4_joint_122 : decode cX4_joint 122 = .ok (.aload_n 0, 1) := dk_42 (dk_at dksX4_joint_5 5 rfl rfl)
theorem dX4_joint_123 : decode cX4_joint 123 = .ok (.iload_n 2, 1) := dk_28 (dk_at dksX4_joint_5 6 rfl rfl)
theorem dX4_joint_124 : decode cX4_joint 124 = .ok (.invokevirtual 420, 3) := dk_182 1 164 (dk_at dksX4_joint_5 7 rfl rfl)
theorem dX4_joint_127 : decode cX4_joint 127 = .ok (.iadd, 1) := dk_96 (dk_at dksX4_joint_5 10 rfl rfl)
theorem dX4_joint_128 : decode cX4_joint 128 = .ok (.istore 4, 2) := dk_54 4 (dk_at dksX4_joint_5 11 rfl rfl)
theorem dX4_joint_130 : decode cX4_joint 130 = .ok (.aload_n 0, 1) := dk_42 (dk_at dksX4_joint_5 13 rfl rfl)
theorem dX4_joint_131 : decode cX4_joint 131 = .ok (.invokevirtual 525, 3) := dk_182 2 13 (dk_at dksX4_joint_5 14 rfl rfl)
theorem dX4_joint_134 : decode cX4_joint 134 = .ok (.aload_n 0, 1) := dk_42 (dk_at dksX4_joint_5 17 rfl rfl)
theorem dX4_joint_135 : decode cX4_joint 135 = .ok (.getfield 510, 3) := dk_180 1 254 (dk_at dksX4_joint_5 18 rfl rfl)
theorem dX4_joint_138 : decode cX4_joint 138 = .ok (.iload 4, 2) := dk_21 4 (dk_at dksX4_joint_5 21 rfl rfl)
theorem dX4_joint_140 : decode cX4_joint 140 = .ok (.isub, 1) := dk_100 (dk_at dksX4_joint_5 23 rfl rfl)
theorem dX4_joint_141 : decode cX4_joint 141 = .ok (.ireturn, 1) := dk_172 (dk_at dksX4_joint_6 0 rfl rfl)
abbrev cX4_keepNow : ByteArray := prog_22_method_93_code
def yX4_keepNow : MethodName := ⟨RX4, "keepNow", "()V"⟩
def dkwX4_keepNow_1 : List UInt8 := [167, 255, 235, 177]
abbrev dktX4_keepNow_1 : List UInt8 := dkwX4_keepNow_1 ++ []
def dkwX4_keepNow_0 : List UInt8 := [3, 60, 27, 16, 42, 162, 0, 21, 42, 180, 0, 140, 27, 42, 180, 0, 113, 27, 46, 79, 132, 1, 1]
abbrev dktX4_keepNow_0 : List UInt8 := dkwX4_keepNow_0 ++ dktX4_keepNow_1
theorem dksX4_keepNow_0 : cX4_keepNow.data.toList.drop 0 = dktX4_keepNow_0 := by decide +kernel
theorem dksX4_keepNow_1 : cX4_keepNow.data.toList.drop 23 = dktX4_keepNow_1 := dk_seg dksX4_keepNow_0 23 rfl rfl
theorem dX4_keepNow_0 : decode cX4_keepNow 0 = .ok (.iconst 0, 1) := dk_3 (dk_at dksX4_keepNow_0 0 rfl rfl)
theorem dX4_keepNow_1 : decode cX4_keepNow 1 = .ok (.istore_n 1, 1) := dk_60 (dk_at dksX4_keepNow_0 1 rfl rfl)
theorem dX4_keepNow_2 : decode cX4_keepNow 2 = .ok (.iload_n 1, 1) := dk_27 (dk_at dksX4_keepNow_0 2 rfl rfl)
theorem dX4_keepNow_3 : decode cX4_keepNow 3 = .ok (.bipush 42, 2) := dk_16 42 (dk_at dksX4_keepNow_0 3 rfl rfl)
theorem dX4_keepNow_5 : decode cX4_keepNow 5 = .ok (.if_icmp .ge 21, 3) := dk_162 0 21 (dk_at dksX4_keepNow_0 5 rfl rfl)
theorem dX4_keepNow_8 : decode cX4_keepNow 8 = .ok (.aload_n 0, 1) := dk_42 (dk_at dksX4_keepNow_0 8 rfl rfl)
theorem dX4_keepNow_9 : decode cX4_keepNow 9 = .ok (.getfield 140, 3) := dk_180 0 140 (dk_at dksX4_keepNow_0 9 rfl rfl)
theorem dX4_keepNow_12 : decode cX4_keepNow 12 = .ok (.iload_n 1, 1) := dk_27 (dk_at dksX4_keepNow_0 12 rfl rfl)
theorem dX4_keepNow_13 : decode cX4_keepNow 13 = .ok (.aload_n 0, 1) := dk_42 (dk_at dksX4_keepNow_0 13 rfl rfl)
theorem dX4_keepNow_14 : decode cX4_keepNow 14 = .ok (.getfield 113, 3) := dk_180 0 113 (dk_at dksX4_keepNow_0 14 rfl rfl)
theorem dX4_keepNow_17 : decode cX4_keepNow 17 = .ok (.iload_n 1, 1) := dk_27 (dk_at dksX4_keepNow_0 17 rfl rfl)
theorem dX4_keepNow_18 : decode cX4_keepNow 18 = .ok (.iaload, 1) := dk_46 (dk_at dksX4_keepNow_0 18 rfl rfl)
theorem dX4_keepNow_19 : decode cX4_keepNow 19 = .ok (.iastore, 1) := dk_79 (dk_at dksX4_keepNow_0 19 rfl rfl)
theorem dX4_keepNow_20 : decode cX4_keepNow 20 = .ok (.iinc 1 1, 3) := dk_132 1 1 (dk_at dksX4_keepNow_0 20 rfl rfl)
theorem dX4_keepNow_23 : decode cX4_keepNow 23 = .ok (.goto (-21), 3) := dk_167 255 235 (dk_at dksX4_keepNow_1 0 rfl rfl)
theorem dX4_keepNow_26 : decode cX4_keepNow 26 = .ok (.return_, 1) := dk_177 (dk_at dksX4_keepNow_1 3 rfl rfl)
abbrev cX4_bringBack : ByteArray := prog_22_method_94_code
def yX4_bringBack : MethodName := ⟨RX4, "bringBack", "()V"⟩
def dkwX4_bringBack_1 : List UInt8 := [167, 255, 235, 177]
abbrev dktX4_bringBack_1 : List UInt8 := dkwX4_bringBack_1 ++ []
def dkwX4_bringBack_0 : List UInt8 := [3, 60, 27, 16, 42, 162, 0, 21, 42, 180, 0, 113, 27, 42, 180, 0, 140, 27, 46, 79, 132, 1, 1]
abbrev dktX4_bringBack_0 : List UInt8 := dkwX4_bringBack_0 ++ dktX4_bringBack_1
theorem dksX4_bringBack_0 : cX4_bringBack.data.toList.drop 0 = dktX4_bringBack_0 := by decide +kernel
theorem dksX4_bringBack_1 : cX4_bringBack.data.toList.drop 23 = dktX4_bringBack_1 := dk_seg dksX4_bringBack_0 23 rfl rfl
theorem dX4_bringBack_0 : decode cX4_bringBack 0 = .ok (.iconst 0, 1) := dk_3 (dk_at dksX4_bringBack_0 0 rfl rfl)
theorem dX4_bringBack_1 : decode cX4_bringBack 1 = .ok (.istore_n 1, 1) := dk_60 (dk_at dksX4_bringBack_0 1 rfl rfl)
theorem dX4_bringBack_2 : decode cX4_bringBack 2 = .ok (.iload_n 1, 1) := dk_27 (dk_at dksX4_bringBack_0 2 rfl rfl)
theorem dX4_bringBack_3 : decode cX4_bringBack 3 = .ok (.bipush 42, 2) := dk_16 42 (dk_at dksX4_bringBack_0 3 rfl rfl)
theorem dX4_bringBack_5 : decode cX4_bringBack 5 = .ok (.if_icmp .ge 21, 3) := dk_162 0 21 (dk_at dksX4_bringBack_0 5 rfl rfl)
theorem dX4_bringBack_8 : decode cX4_bringBack 8 = .ok (.aload_n 0, 1) := dk_42 (dk_at dksX4_bringBack_0 8 rfl rfl)
theorem dX4_bringBack_9 : decode cX4_bringBack 9 = .ok (.getfield 113, 3) := dk_180 0 113 (dk_at dksX4_bringBack_0 9 rfl rfl)
theorem dX4_bringBack_12 : decode cX4_bringBack 12 = .ok (.iload_n 1, 1) := dk_27 (dk_at dksX4_bringBack_0 12 rfl rfl)
theorem dX4_bringBack_13 : decode cX4_bringBack 13 = .ok (.aload_n 0, 1) := dk_42 (dk_at dksX4_bringBack_0 13 rfl rfl)
theorem dX4_bringBack_14 : decode cX4_bringBack 14 = .ok (.getfield 140, 3) := dk_180 0 140 (dk_at dksX4_bringBack_0 14 rfl rfl)
theorem dX4_bringBack_17 : decode cX4_bringBack 17 = .ok (.iload_n 1, 1) := dk_27 (dk_at dksX4_bringBack_0 17 rfl rfl)
theorem dX4_bringBack_18 : decode cX4_bringBack 18 = .ok (.iaload, 1) := dk_46 (dk_at dksX4_bringBack_0 18 rfl rfl)
theorem dX4_bringBack_19 : decode cX4_bringBack 19 = .ok (.iastore, 1) := dk_79 (dk_at dksX4_bringBack_0 19 rfl rfl)
theorem dX4_bringBack_20 : decode cX4_bringBack 20 = .ok (.iinc 1 1, 3) := dk_132 1 1 (dk_at dksX4_bringBack_0 20 rfl rfl)
theorem dX4_bringBack_23 : decode cX4_bringBack 23 = .ok (.goto (-21), 3) := dk_167 255 235 (dk_at dksX4_bringBack_1 0 rfl rfl)
theorem dX4_bringBack_26 : decode cX4_bringBack 26 = .ok (.return_, 1) := dk_177 (dk_at dksX4_bringBack_1 3 rfl rfl)
abbrev cX4_rest : ByteArray := prog_22_method_98_code
def yX4_rest : MethodName := ⟨RX4, "rest", "()I"⟩
def dkwX4_rest_4 : List UInt8 := [42, 42, 182, 1, 142, 181, 1, 158, 27, 172]
abbrev dktX4_rest_4 : List UInt8 := dkwX4_rest_4 ++ []
def dkwX4_rest_3 : List UInt8 := [42, 182, 1, 142, 162, 0, 20, 42, 180, 0, 125, 29, 42, 29, 182, 2, 19, 79, 132, 3, 1, 167, 255, 234]
abbrev dktX4_rest_3 : List UInt8 := dkwX4_rest_3 ++ dktX4_rest_4
def dkwX4_rest_2 : List UInt8 := [132, 1, 1, 42, 182, 2, 16, 61, 167, 255, 238, 42, 182, 2, 13, 28, 153, 0, 5, 2, 172, 3, 62, 29]
abbrev dktX4_rest_2 : List UInt8 := dkwX4_rest_2 ++ dktX4_rest_3
def dkwX4_rest_1 : List UInt8 := [132, 1, 1, 167, 255, 240, 3, 60, 42, 182, 2, 16, 61, 28, 153, 0, 20, 27, 16, 20, 162, 0, 14]
abbrev dktX4_rest_1 : List UInt8 := dkwX4_rest_1 ++ dktX4_rest_2
def dkwX4_rest_0 : List UInt8 := [42, 3, 181, 1, 158, 42, 182, 2, 10, 3, 60, 27, 16, 15, 162, 0, 16, 42, 180, 0, 146, 27, 3, 79]
abbrev dktX4_rest_0 : List UInt8 := dkwX4_rest_0 ++ dktX4_rest_1
theorem dksX4_rest_0 : cX4_rest.data.toList.drop 0 = dktX4_rest_0 := by decide +kernel
theorem dksX4_rest_1 : cX4_rest.data.toList.drop 24 = dktX4_rest_1 := dk_seg dksX4_rest_0 24 rfl rfl
theorem dksX4_rest_2 : cX4_rest.data.toList.drop 47 = dktX4_rest_2 := dk_seg dksX4_rest_1 23 rfl rfl
theorem dksX4_rest_3 : cX4_rest.data.toList.drop 71 = dktX4_rest_3 := dk_seg dksX4_rest_2 24 rfl rfl
theorem dksX4_rest_4 : cX4_rest.data.toList.drop 95 = dktX4_rest_4 := dk_seg dksX4_rest_3 24 rfl rfl
theorem dX4_rest_0 : decode cX4_rest 0 = .ok (.aload_n 0, 1) := dk_42 (dk_at dksX4_rest_0 0 rfl rfl)
theorem dX4_rest_1 : decode cX4_rest 1 = .ok (.iconst 0, 1) := dk_3 (dk_at dksX4_rest_0 1 rfl rfl)
theorem dX4_rest_2 : decode cX4_rest 2 = .ok (.putfield 414, 3) := dk_181 1 158 (dk_at dksX4_rest_0 2 rfl rfl)
theorem dX4_rest_5 : decode cX4_rest 5 = .ok (.aload_n 0, 1) := dk_42 (dk_at dksX4_rest_0 5 rfl rfl)
theorem dX4_rest_6 : decode cX4_rest 6 = .ok (.invokevirtual 522, 3) := dk_182 2 10 (dk_at dksX4_rest_0 6 rfl rfl)
theorem dX4_rest_9 : decode cX4_rest 9 = .ok (.iconst 0, 1) := dk_3 (dk_at dksX4_rest_0 9 rfl rfl)
theorem dX4_rest_10 : decode cX4_rest 10 = .ok (.istore_n 1, 1) := dk_60 (dk_at dksX4_rest_0 10 rfl rfl)
theorem dX4_rest_11 : decode cX4_rest 11 = .ok (.iload_n 1, 1) := dk_27 (dk_at dksX4_rest_0 11 rfl rfl)
theorem dX4_rest_12 : decode cX4_rest 12 = .ok (.bipush 15, 2) := dk_16 15 (dk_at dksX4_rest_0 12 rfl rfl)
theorem dX4_rest_14 : decode cX4_rest 14 = .ok (.if_icmp .ge 16, 3) := dk_162 0 16 (dk_at dksX4_rest_0 14 rfl rfl)
theorem dX4_rest_17 : decode cX4_rest 17 = .ok (.aload_n 0, 1) := dk_42 (dk_at dksX4_rest_0 17 rfl rfl)
theorem dX4_rest_18 : decode cX4_rest 18 = .ok (.getfield 146, 3) := dk_180 0 146 (dk_at dksX4_rest_0 18 rfl rfl)
theorem dX4_rest_21 : decode cX4_rest 21 = .ok (.iload_n 1, 1) := dk_27 (dk_at dksX4_rest_0 21 rfl rfl)
theorem dX4_rest_22 : decode cX4_rest 22 = .ok (.iconst 0, 1) := dk_3 (dk_at dksX4_rest_0 22 rfl rfl)
theorem dX4_rest_23 : decode cX4_rest 23 = .ok (.iastore, 1) := dk_79 (dk_at dksX4_rest_0 23 rfl rfl)
theorem dX4_rest_24 : decode cX4_rest 24 = .ok (.iinc 1 1, 3) := dk_132 1 1 (dk_at dksX4_rest_1 0 rfl rfl)
theorem dX4_rest_27 : decode cX4_rest 27 = .ok (.goto (-16), 3) := dk_167 255 240 (dk_at dksX4_rest_1 3 rfl rfl)
theorem dX4_rest_30 : decode cX4_rest 30 = .ok (.iconst 0, 1) := dk_3 (dk_at dksX4_rest_1 6 rfl rfl)
theorem dX4_rest_31 : decode cX4_rest 31 = .ok (.istore_n 1, 1) := dk_60 (dk_at dksX4_rest_1 7 rfl rfl)
theorem dX4_rest_32 : decode cX4_rest 32 = .ok (.aload_n 0, 1) := dk_42 (dk_at dksX4_rest_1 8 rfl rfl)
theorem dX4_rest_33 : decode cX4_rest 33 = .ok (.invokevirtual 528, 3) := dk_182 2 16 (dk_at dksX4_rest_1 9 rfl rfl)
theorem dX4_rest_36 : decode cX4_rest 36 = .ok (.istore_n 2, 1) := dk_61 (dk_at dksX4_rest_1 12 rfl rfl)
theorem dX4_rest_37 : decode cX4_rest 37 = .ok (.iload_n 2, 1) := dk_28 (dk_at dksX4_rest_1 13 rfl rfl)
theorem dX4_rest_38 : decode cX4_rest 38 = .ok (.ifCond .eq 20, 3) := dk_153 0 20 (dk_at dksX4_rest_1 14 rfl rfl)
theorem dX4_rest_41 : decode cX4_rest 41 = .ok (.iload_n 1, 1) := dk_27 (dk_at dksX4_rest_1 17 rfl rfl)
theorem dX4_rest_42 : decode cX4_rest 42 = .ok (.bipush 20, 2) := dk_16 20 (dk_at dksX4_rest_1 18 rfl rfl)
theorem dX4_rest_44 : decode cX4_rest 44 = .ok (.if_icmp .ge 14, 3) := dk_162 0 14 (dk_at dksX4_rest_1 20 rfl rfl)
theorem dX4_rest_47 : decode cX4_rest 47 = .ok (.iinc 1 1, 3) := dk_132 1 1 (dk_at dksX4_rest_2 0 rfl rfl)
theorem dX4_rest_50 : decode cX4_rest 50 = .ok (.aload_n 0, 1) := dk_42 (dk_at dksX4_rest_2 3 rfl rfl)
theorem dX4_rest_51 : decode cX4_rest 51 = .ok (.invokevirtual 528, 3) := dk_182 2 16 (dk_at dksX4_rest_2 4 rfl rfl)
theorem dX4_rest_54 : decode cX4_rest 54 = .ok (.istore_n 2, 1) := dk_61 (dk_at dksX4_rest_2 7 rfl rfl)
theorem dX4_rest_55 : decode cX4_rest 55 = .ok (.goto (-18), 3) := dk_167 255 238 (dk_at dksX4_rest_2 8 rfl rfl)
theorem dX4_rest_58 : decode cX4_rest 58 = .ok (.aload_n 0, 1) := dk_42 (dk_at dksX4_rest_2 11 rfl rfl)
theorem dX4_rest_59 : decode cX4_rest 59 = .ok (.invokevirtual 525, 3) := dk_182 2 13 (dk_at dksX4_rest_2 12 rfl rfl)
theorem dX4_rest_62 : decode cX4_rest 62 = .ok (.iload_n 2, 1) := dk_28 (dk_at dksX4_rest_2 15 rfl rfl)
theorem dX4_rest_63 : decode cX4_rest 63 = .ok (.ifCond .eq 5, 3) := dk_153 0 5 (dk_at dksX4_rest_2 16 rfl rfl)
theorem dX4_rest_66 : decode cX4_rest 66 = .ok (.iconst (-1), 1) := dk_2 (dk_at dksX4_rest_2 19 rfl rfl)
theorem dX4_rest_67 : decode cX4_rest 67 = .ok (.ireturn, 1) := dk_172 (dk_at dksX4_rest_2 20 rfl rfl)
theorem dX4_rest_68 : decode cX4_rest 68 = .ok (.iconst 0, 1) := dk_3 (dk_at dksX4_rest_2 21 rfl rfl)
theorem dX4_rest_69 : decode cX4_rest 69 = .ok (.istore_n 3, 1) := dk_62 (dk_at dksX4_rest_2 22 rfl rfl)
theorem dX4_rest_70 : decode cX4_rest 70 = .ok (.iload_n 3, 1) := dk_29 (dk_at dksX4_rest_2 23 rfl rfl)
theorem dX4_rest_71 : decode cX4_rest 71 = .ok (.aload_n 0, 1) := dk_42 (dk_at dksX4_rest_3 0 rfl rfl)
theorem dX4_rest_72 : decode cX4_rest 72 = .ok (.invokevirtual 398, 3) := dk_182 1 142 (dk_at dksX4_rest_3 1 rfl rfl)
theorem dX4_rest_75 : decode cX4_rest 75 = .ok (.if_icmp .ge 20, 3) := dk_162 0 20 (dk_at dksX4_rest_3 4 rfl rfl)
theorem dX4_rest_78 : decode cX4_rest 78 = .ok (.aload_n 0, 1) := dk_42 (dk_at dksX4_rest_3 7 rfl rfl)
theorem dX4_rest_79 : decode cX4_rest 79 = .ok (.getfield 125, 3) := dk_180 0 125 (dk_at dksX4_rest_3 8 rfl rfl)
theorem dX4_rest_82 : decode cX4_rest 82 = .ok (.iload_n 3, 1) := dk_29 (dk_at dksX4_rest_3 11 rfl rfl)
theorem dX4_rest_83 : decode cX4_rest 83 = .ok (.aload_n 0, 1) := dk_42 (dk_at dksX4_rest_3 12 rfl rfl)
theorem dX4_rest_84 : decode cX4_rest 84 = .ok (.iload_n 3, 1) := dk_29 (dk_at dksX4_rest_3 13 rfl rfl)
theorem dX4_rest_85 : decode cX4_rest 85 = .ok (.invokevirtual 531, 3) := dk_182 2 19 (dk_at dksX4_rest_3 14 rfl rfl)
theorem dX4_rest_88 : decode cX4_rest 88 = .ok (.iastore, 1) := dk_79 (dk_at dksX4_rest_3 17 rfl rfl)
theorem dX4_rest_89 : decode cX4_rest 89 = .ok (.iinc 3 1, 3) := dk_132 3 1 (dk_at dksX4_rest_3 18 rfl rfl)
theorem dX4_rest_92 : decode cX4_rest 92 = .ok (.goto (-22), 3) := dk_167 255 234 (dk_at dksX4_rest_3 21 rfl rfl)
theorem dX4_rest_95 : decode cX4_rest 95 = .ok (.aload_n 0, 1) := dk_42 (dk_at dksX4_rest_4 0 rfl rfl)
theorem dX4_rest_96 : decode cX4_rest 96 = .ok (.aload_n 0, 1) := dk_42 (dk_at dksX4_rest_4 1 rfl rfl)
theorem dX4_rest_97 : decode cX4_rest 97 = .ok (.invokevirtual 398, 3) := dk_182 1 142 (dk_at dksX4_rest_4 2 rfl rfl)
theorem dX4_rest_100 : decode cX4_rest 100 = .ok (.putfield 414, 3) := dk_181 1 158 (dk_at dksX4_rest_4 5 rfl rfl)
theorem dX4_rest_103 : decode cX4_rest 103 = .ok (.iload_n 1, 1) := dk_27 (dk_at dksX4_rest_4 8 rfl rfl)
theorem dX4_rest_104 : decode cX4_rest 104 = .ok (.ireturn, 1) := dk_172 (dk_at dksX4_rest_4 9 rfl rfl)
abbrev cX4_goRound : ByteArray := prog_22_method_97_code
def yX4_goRound : MethodName := ⟨RX4, "goRound", "()Z"⟩
def dkwX4_goRound_5 : List UInt8 := [167, 255, 145, 27, 172]
abbrev dktX4_goRound_5 : List UInt8 := dkwX4_goRound_5 ++ []
def dkwX4_goRound_4 : List UInt8 := [42, 180, 0, 122, 29, 46, 79, 132, 3, 1, 167, 255, 203, 42, 28, 4, 182, 1, 248, 132, 2, 1]
abbrev dktX4_goRound_4 : List UInt8 := dkwX4_goRound_4 ++ dktX4_goRound_5
def dkwX4_goRound_3 : List UInt8 := [42, 180, 0, 122, 29, 46, 159, 0, 7, 4, 167, 0, 4, 3, 60, 42, 180, 0, 146, 6, 28, 104, 29, 96]
abbrev dktX4_goRound_3 : List UInt8 := dkwX4_goRound_3 ++ dktX4_goRound_4
def dkwX4_goRound_2 : List UInt8 := [182, 1, 242, 3, 62, 29, 6, 162, 0, 54, 27, 154, 0, 22, 42, 180, 0, 146, 6, 28, 104, 29, 96, 46]
abbrev dktX4_goRound_2 : List UInt8 := dkwX4_goRound_2 ++ dktX4_goRound_3
def dkwX4_goRound_1 : List UInt8 := [180, 0, 146, 6, 28, 104, 29, 96, 46, 2, 182, 1, 192, 132, 3, 1, 167, 255, 231, 42, 28, 3]
abbrev dktX4_goRound_1 : List UInt8 := dkwX4_goRound_1 ++ dktX4_goRound_2
def dkwX4_goRound_0 : List UInt8 := [3, 60, 3, 61, 28, 42, 182, 1, 142, 162, 0, 109, 3, 62, 29, 6, 162, 0, 26, 42, 28, 29, 42]
abbrev dktX4_goRound_0 : List UInt8 := dkwX4_goRound_0 ++ dktX4_goRound_1
theorem dksX4_goRound_0 : cX4_goRound.data.toList.drop 0 = dktX4_goRound_0 := by decide +kernel
theorem dksX4_goRound_1 : cX4_goRound.data.toList.drop 23 = dktX4_goRound_1 := dk_seg dksX4_goRound_0 23 rfl rfl
theorem dksX4_goRound_2 : cX4_goRound.data.toList.drop 45 = dktX4_goRound_2 := dk_seg dksX4_goRound_1 22 rfl rfl
theorem dksX4_goRound_3 : cX4_goRound.data.toList.drop 69 = dktX4_goRound_3 := dk_seg dksX4_goRound_2 24 rfl rfl
theorem dksX4_goRound_4 : cX4_goRound.data.toList.drop 93 = dktX4_goRound_4 := dk_seg dksX4_goRound_3 24 rfl rfl
theorem dksX4_goRound_5 : cX4_goRound.data.toList.drop 115 = dktX4_goRound_5 := dk_seg dksX4_goRound_4 22 rfl rfl
theorem dX4_goRound_0 : decode cX4_goRound 0 = .ok (.iconst 0, 1) := dk_3 (dk_at dksX4_goRound_0 0 rfl rfl)
theorem dX4_goRound_1 : decode cX4_goRound 1 = .ok (.istore_n 1, 1) := dk_60 (dk_at dksX4_goRound_0 1 rfl rfl)
theorem dX4_goRound_2 : decode cX4_goRound 2 = .ok (.iconst 0, 1) := dk_3 (dk_at dksX4_goRound_0 2 rfl rfl)
theorem dX4_goRound_3 : decode cX4_goRound 3 = .ok (.istore_n 2, 1) := dk_61 (dk_at dksX4_goRound_0 3 rfl rfl)
theorem dX4_goRound_4 : decode cX4_goRound 4 = .ok (.iload_n 2, 1) := dk_28 (dk_at dksX4_goRound_0 4 rfl rfl)
theorem dX4_goRound_5 : decode cX4_goRound 5 = .ok (.aload_n 0, 1) := dk_42 (dk_at dksX4_goRound_0 5 rfl rfl)
theorem dX4_goRound_6 : decode cX4_goRound 6 = .ok (.invokevirtual 398, 3) := dk_182 1 142 (dk_at dksX4_goRound_0 6 rfl rfl)
theorem dX4_goRound_9 : decode cX4_goRound 9 = .ok (.if_icmp .ge 109, 3) := dk_162 0 109 (dk_at dksX4_goRound_0 9 rfl rfl)
theorem dX4_goRound_12 : decode cX4_goRound 12 = .ok (.iconst 0, 1) := dk_3 (dk_at dksX4_goRound_0 12 rfl rfl)
theorem dX4_goRound_13 : decode cX4_goRound 13 = .ok (.istore_n 3, 1) := dk_62 (dk_at dksX4_goRound_0 13 rfl rfl)
theorem dX4_goRound_14 : decode cX4_goRound 14 = .ok (.iload_n 3, 1) := dk_29 (dk_at dksX4_goRound_0 14 rfl rfl)
theorem dX4_goRound_15 : decode cX4_goRound 15 = .ok (.iconst 3, 1) := dk_6 (dk_at dksX4_goRound_0 15 rfl rfl)
theorem dX4_goRound_16 : decode cX4_goRound 16 = .ok (.if_icmp .ge 26, 3) := dk_162 0 26 (dk_at dksX4_goRound_0 16 rfl rfl)
theorem dX4_goRound_19 : decode cX4_goRound 19 = .ok (.aload_n 0, 1) := dk_42 (dk_at dksX4_goRound_0 19 rfl rfl)
theorem dX4_goRound_20 : decode cX4_goRound 20 = .ok (.iload_n 2, 1) := dk_28 (dk_at dksX4_goRound_0 20 rfl rfl)
theorem dX4_goRound_21 : decode cX4_goRound 21 = .ok (.iload_n 3, 1) := dk_29 (dk_at dksX4_goRound_0 21 rfl rfl)
theorem dX4_goRound_22 : decode cX4_goRound 22 = .ok (.aload_n 0, 1) := dk_42 (dk_at dksX4_goRound_0 22 rfl rfl)
theorem dX4_goRound_23 : decode cX4_goRound 23 = .ok (.getfield 146, 3) := dk_180 0 146 (dk_at dksX4_goRound_1 0 rfl rfl)
theorem dX4_goRound_26 : decode cX4_goRound 26 = .ok (.iconst 3, 1) := dk_6 (dk_at dksX4_goRound_1 3 rfl rfl)
theorem dX4_goRound_27 : decode cX4_goRound 27 = .ok (.iload_n 2, 1) := dk_28 (dk_at dksX4_goRound_1 4 rfl rfl)
theorem dX4_goRound_28 : decode cX4_goRound 28 = .ok (.imul, 1) := dk_104 (dk_at dksX4_goRound_1 5 rfl rfl)
theorem dX4_goRound_29 : decode cX4_goRound 29 = .ok (.iload_n 3, 1) := dk_29 (dk_at dksX4_goRound_1 6 rfl rfl)
theorem dX4_goRound_30 : decode cX4_goRound 30 = .ok (.iadd, 1) := dk_96 (dk_at dksX4_goRound_1 7 rfl rfl)
theorem dX4_goRound_31 : decode cX4_goRound 31 = .ok (.iaload, 1) := dk_46 (dk_at dksX4_goRound_1 8 rfl rfl)
theorem dX4_goRound_32 : decode cX4_goRound 32 = .ok (.iconst (-1), 1) := dk_2 (dk_at dksX4_goRound_1 9 rfl rfl)
theorem dX4_goRound_33 : decode cX4_goRound 33 = .ok (.invokevirtual 448, 3) := dk_182 1 192 (dk_at dksX4_goRound_1 10 rfl rfl)
theorem dX4_goRound_36 : decode cX4_goRound 36 = .ok (.iinc 3 1, 3) := dk_132 3 1 (dk_at dksX4_goRound_1 13 rfl rfl)
theorem dX4_goRound_39 : decode cX4_goRound 39 = .ok (.goto (-25), 3) := dk_167 255 231 (dk_at dksX4_goRound_1 16 rfl rfl)
theorem dX4_goRound_42 : decode cX4_goRound 42 = .ok (.aload_n 0, 1) := dk_42 (dk_at dksX4_goRound_1 19 rfl rfl)
theorem dX4_goRound_43 : decode cX4_goRound 43 = .ok (.iload_n 2, 1) := dk_28 (dk_at dksX4_goRound_1 20 rfl rfl)
theorem dX4_goRound_44 : decode cX4_goRound 44 = .ok (.iconst 0, 1) := dk_3 (dk_at dksX4_goRound_1 21 rfl rfl)
theorem dX4_goRound_45 : decode cX4_goRound 45 = .ok (.invokevirtual 498, 3) := dk_182 1 242 (dk_at dksX4_goRound_2 0 rfl rfl)
theorem dX4_goRound_48 : decode cX4_goRound 48 = .ok (.iconst 0, 1) := dk_3 (dk_at dksX4_goRound_2 3 rfl rfl)
theorem dX4_goRound_49 : decode cX4_goRound 49 = .ok (.istore_n 3, 1) := dk_62 (dk_at dksX4_goRound_2 4 rfl rfl)
theorem dX4_goRound_50 : decode cX4_goRound 50 = .ok (.iload_n 3, 1) := dk_29 (dk_at dksX4_goRound_2 5 rfl rfl)
theorem dX4_goRound_51 : decode cX4_goRound 51 = .ok (.iconst 3, 1) := dk_6 (dk_at dksX4_goRound_2 6 rfl rfl)
theorem dX4_goRound_52 : decode cX4_goRound 52 = .ok (.if_icmp .ge 54, 3) := dk_162 0 54 (dk_at dksX4_goRound_2 7 rfl rfl)
theorem dX4_goRound_55 : decode cX4_goRound 55 = .ok (.iload_n 1, 1) := dk_27 (dk_at dksX4_goRound_2 10 rfl rfl)
theorem dX4_goRound_56 : decode cX4_goRound 56 = .ok (.ifCond .ne 22, 3) := dk_154 0 22 (dk_at dksX4_goRound_2 11 rfl rfl)
theorem dX4_goRound_59 : decode cX4_goRound 59 = .ok (.aload_n 0, 1) := dk_42 (dk_at dksX4_goRound_2 14 rfl rfl)
theorem dX4_goRound_60 : decode cX4_goRound 60 = .ok (.getfield 146, 3) := dk_180 0 146 (dk_at dksX4_goRound_2 15 rfl rfl)
theorem dX4_goRound_63 : decode cX4_goRound 63 = .ok (.iconst 3, 1) := dk_6 (dk_at dksX4_goRound_2 18 rfl rfl)
theorem dX4_goRound_64 : decode cX4_goRound 64 = .ok (.iload_n 2, 1) := dk_28 (dk_at dksX4_goRound_2 19 rfl rfl)
theorem dX4_goRound_65 : decode cX4_goRound 65 = .ok (.imul, 1) := dk_104 (dk_at dksX4_goRound_2 20 rfl rfl)
theorem dX4_goRound_66 : decode cX4_goRound 66 = .ok (.iload_n 3, 1) := dk_29 (dk_at dksX4_goRound_2 21 rfl rfl)
theorem dX4_goRound_67 : decode cX4_goRound 67 = .ok (.iadd, 1) := dk_96 (dk_at dksX4_goRound_2 22 rfl rfl)
theorem dX4_goRound_68 : decode cX4_goRound 68 = .ok (.iaload, 1) := dk_46 (dk_at dksX4_goRound_2 23 rfl rfl)
theorem dX4_goRound_69 : decode cX4_goRound 69 = .ok (.aload_n 0, 1) := dk_42 (dk_at dksX4_goRound_3 0 rfl rfl)
theorem dX4_goRound_70 : decode cX4_goRound 70 = .ok (.getfield 122, 3) := dk_180 0 122 (dk_at dksX4_goRound_3 1 rfl rfl)
theorem dX4_goRound_73 : decode cX4_goRound 73 = .ok (.iload_n 3, 1) := dk_29 (dk_at dksX4_goRound_3 4 rfl rfl)
theorem dX4_goRound_74 : decode cX4_goRound 74 = .ok (.iaload, 1) := dk_46 (dk_at dksX4_goRound_3 5 rfl rfl)
theorem dX4_goRound_75 : decode cX4_goRound 75 = .ok (.if_icmp .eq 7, 3) := dk_159 0 7 (dk_at dksX4_goRound_3 6 rfl rfl)
theorem dX4_goRound_78 : decode cX4_goRound 78 = .ok (.iconst 1, 1) := dk_4 (dk_at dksX4_goRound_3 9 rfl rfl)
theorem dX4_goRound_79 : decode cX4_goRound 79 = .ok (.goto 4, 3) := dk_167 0 4 (dk_at dksX4_goRound_3 10 rfl rfl)
theorem dX4_goRound_82 : decode cX4_goRound 82 = .ok (.iconst 0, 1) := dk_3 (dk_at dksX4_goRound_3 13 rfl rfl)
theorem dX4_goRound_83 : decode cX4_goRound 83 = .ok (.istore_n 1, 1) := dk_60 (dk_at dksX4_goRound_3 14 rfl rfl)
theorem dX4_goRound_84 : decode cX4_goRound 84 = .ok (.aload_n 0, 1) := dk_42 (dk_at dksX4_goRound_3 15 rfl rfl)
theorem dX4_goRound_85 : decode cX4_goRound 85 = .ok (.getfield 146, 3) := dk_180 0 146 (dk_at dksX4_goRound_3 16 rfl rfl)
theorem dX4_goRound_88 : decode cX4_goRound 88 = .ok (.iconst 3, 1) := dk_6 (dk_at dksX4_goRound_3 19 rfl rfl)
theorem dX4_goRound_89 : decode cX4_goRound 89 = .ok (.iload_n 2, 1) := dk_28 (dk_at dksX4_goRound_3 20 rfl rfl)
theorem dX4_goRound_90 : decode cX4_goRound 90 = .ok (.imul, 1) := dk_104 (dk_at dksX4_goRound_3 21 rfl rfl)
theorem dX4_goRound_91 : decode cX4_goRound 91 = .ok (.iload_n 3, 1) := dk_29 (dk_at dksX4_goRound_3 22 rfl rfl)
theorem dX4_goRound_92 : decode cX4_goRound 92 = .ok (.iadd, 1) := dk_96 (dk_at dksX4_goRound_3 23 rfl rfl)
theorem dX4_goRound_93 : decode cX4_goRound 93 = .ok (.aload_n 0, 1) := dk_42 (dk_at dksX4_goRound_4 0 rfl rfl)
theorem dX4_goRound_94 : decode cX4_goRound 94 = .ok (.getfield 122, 3) := dk_180 0 122 (dk_at dksX4_goRound_4 1 rfl rfl)
theorem dX4_goRound_97 : decode cX4_goRound 97 = .ok (.iload_n 3, 1) := dk_29 (dk_at dksX4_goRound_4 4 rfl rfl)
theorem dX4_goRound_98 : decode cX4_goRound 98 = .ok (.iaload, 1) := dk_46 (dk_at dksX4_goRound_4 5 rfl rfl)
theorem dX4_goRound_99 : decode cX4_goRound 99 = .ok (.iastore, 1) := dk_79 (dk_at dksX4_goRound_4 6 rfl rfl)
theorem dX4_goRound_100 : decode cX4_goRound 100 = .ok (.iinc 3 1, 3) := dk_132 3 1 (dk_at dksX4_goRound_4 7 rfl rfl)
theorem dX4_goRound_103 : decode cX4_goRound 103 = .ok (.goto (-53), 3) := dk_167 255 203 (dk_at dksX4_goRound_4 10 rfl rfl)
theorem dX4_goRound_106 : decode cX4_goRound 106 = .ok (.aload_n 0, 1) := dk_42 (dk_at dksX4_goRound_4 13 rfl rfl)
theorem dX4_goRound_107 : decode cX4_goRound 107 = .ok (.iload_n 2, 1) := dk_28 (dk_at dksX4_goRound_4 14 rfl rfl)
theorem dX4_goRound_108 : decode cX4_goRound 108 = .ok (.iconst 1, 1) := dk_4 (dk_at dksX4_goRound_4 15 rfl rfl)
theorem dX4_goRound_109 : decode cX4_goRound 109 = .ok (.invokevirtual 504, 3) := dk_182 1 248 (dk_at dksX4_goRound_4 16 rfl rfl)
theorem dX4_goRound_112 : decode cX4_goRound 112 = .ok (.iinc 2 1, 3) := dk_132 2 1 (dk_at dksX4_goRound_4 19 rfl rfl)
theorem dX4_goRound_115 : decode cX4_goRound 115 = .ok (.goto (-111), 3) := dk_167 255 145 (dk_at dksX4_goRound_5 0 rfl rfl)
theorem dX4_goRound_118 : decode cX4_goRound 118 = .ok (.iload_n 1, 1) := dk_27 (dk_at dksX4_goRound_5 3 rfl rfl)
theorem dX4_goRound_119 : decode cX4_goRound 119 = .ok (.ireturn, 1) := dk_172 (dk_at dksX4_goRound_5 4 rfl rfl)
abbrev cX4_spendsOf : ByteArray := prog_22_method_96_code
def yX4_spendsOf : MethodName := ⟨RX4, "spendsOf", "(I)I"⟩
def dkwX4_spendsOf_1 : List UInt8 := [27, 104, 5, 96, 46, 96, 172]
abbrev dktX4_spendsOf_1 : List UInt8 := dkwX4_spendsOf_1 ++ []
def dkwX4_spendsOf_0 : List UInt8 := [42, 180, 0, 146, 6, 27, 104, 46, 42, 180, 0, 146, 6, 27, 104, 4, 96, 46, 96, 42, 180, 0, 146, 6]
abbrev dktX4_spendsOf_0 : List UInt8 := dkwX4_spendsOf_0 ++ dktX4_spendsOf_1
theorem dksX4_spendsOf_0 : cX4_spendsOf.data.toList.drop 0 = dktX4_spendsOf_0 := by decide +kernel
theorem dksX4_spendsOf_1 : cX4_spendsOf.data.toList.drop 24 = dktX4_spendsOf_1 := dk_seg dksX4_spendsOf_0 24 rfl rfl
theorem dX4_spendsOf_0 : decode cX4_spendsOf 0 = .ok (.aload_n 0, 1) := dk_42 (dk_at dksX4_spendsOf_0 0 rfl rfl)
theorem dX4_spendsOf_1 : decode cX4_spendsOf 1 = .ok (.getfield 146, 3) := dk_180 0 146 (dk_at dksX4_spendsOf_0 1 rfl rfl)
theorem dX4_spendsOf_4 : decode cX4_spendsOf 4 = .ok (.iconst 3, 1) := dk_6 (dk_at dksX4_spendsOf_0 4 rfl rfl)
theorem dX4_spendsOf_5 : decode cX4_spendsOf 5 = .ok (.iload_n 1, 1) := dk_27 (dk_at dksX4_spendsOf_0 5 rfl rfl)
theorem dX4_spendsOf_6 : decode cX4_spendsOf 6 = .ok (.imul, 1) := dk_104 (dk_at dksX4_spendsOf_0 6 rfl rfl)
theorem dX4_spendsOf_7 : decode cX4_spendsOf 7 = .ok (.iaload, 1) := dk_46 (dk_at dksX4_spendsOf_0 7 rfl rfl)
theorem dX4_spendsOf_8 : decode cX4_spendsOf 8 = .ok (.aload_n 0, 1) := dk_42 (dk_at dksX4_spendsOf_0 8 rfl rfl)
theorem dX4_spendsOf_9 : decode cX4_spendsOf 9 = .ok (.getfield 146, 3) := dk_180 0 146 (dk_at dksX4_spendsOf_0 9 rfl rfl)
theorem dX4_spendsOf_12 : decode cX4_spendsOf 12 = .ok (.iconst 3, 1) := dk_6 (dk_at dksX4_spendsOf_0 12 rfl rfl)
theorem dX4_spendsOf_13 : decode cX4_spendsOf 13 = .ok (.iload_n 1, 1) := dk_27 (dk_at dksX4_spendsOf_0 13 rfl rfl)
theorem dX4_spendsOf_14 : decode cX4_spendsOf 14 = .ok (.imul, 1) := dk_104 (dk_at dksX4_spendsOf_0 14 rfl rfl)
theorem dX4_spendsOf_15 : decode cX4_spendsOf 15 = .ok (.iconst 1, 1) := dk_4 (dk_at dksX4_spendsOf_0 15 rfl rfl)
theorem dX4_spendsOf_16 : decode cX4_spendsOf 16 = .ok (.iadd, 1) := dk_96 (dk_at dksX4_spendsOf_0 16 rfl rfl)
theorem dX4_spendsOf_17 : decode cX4_spendsOf 17 = .ok (.iaload, 1) := dk_46 (dk_at dksX4_spendsOf_0 17 rfl rfl)
theorem dX4_spendsOf_18 : decode cX4_spendsOf 18 = .ok (.iadd, 1) := dk_96 (dk_at dksX4_spendsOf_0 18 rfl rfl)
theorem dX4_spendsOf_19 : decode cX4_spendsOf 19 = .ok (.aload_n 0, 1) := dk_42 (dk_at dksX4_spendsOf_0 19 rfl rfl)
theorem dX4_spendsOf_20 : decode cX4_spendsOf 20 = .ok (.getfield 146, 3) := dk_180 0 146 (dk_at dksX4_spendsOf_0 20 rfl rfl)
theorem dX4_spendsOf_23 : decode cX4_spendsOf 23 = .ok (.iconst 3, 1) := dk_6 (dk_at dksX4_spendsOf_0 23 rfl rfl)
theorem dX4_spendsOf_24 : decode cX4_spendsOf 24 = .ok (.iload_n 1, 1) := dk_27 (dk_at dksX4_spendsOf_1 0 rfl rfl)
theorem dX4_spendsOf_25 : decode cX4_spendsOf 25 = .ok (.imul, 1) := dk_104 (dk_at dksX4_spendsOf_1 1 rfl rfl)
theorem dX4_spendsOf_26 : decode cX4_spendsOf 26 = .ok (.iconst 2, 1) := dk_5 (dk_at dksX4_spendsOf_1 2 rfl rfl)
theorem dX4_spendsOf_27 : decode cX4_spendsOf 27 = .ok (.iadd, 1) := dk_96 (dk_at dksX4_spendsOf_1 3 rfl rfl)
theorem dX4_spendsOf_28 : decode cX4_spendsOf 28 = .ok (.iaload, 1) := dk_46 (dk_at dksX4_spendsOf_1 4 rfl rfl)
theorem dX4_spendsOf_29 : decode cX4_spendsOf 29 = .ok (.iadd, 1) := dk_96 (dk_at dksX4_spendsOf_1 5 rfl rfl)
theorem dX4_spendsOf_30 : decode cX4_spendsOf 30 = .ok (.ireturn, 1) := dk_172 (dk_at dksX4_spendsOf_1 6 rfl rfl)
abbrev cX4_will : ByteArray := prog_22_method_99_code
def yX4_will : MethodName := ⟨RX4, "will", "(II)I"⟩
def dkwX4_will_2 : List UInt8 := [16, 15, 27, 96, 46, 62, 42, 182, 2, 13, 29, 172]
abbrev dktX4_will_2 : List UInt8 := dkwX4_will_2 ++ []
def dkwX4_will_1 : List UInt8 := [3, 62, 29, 28, 162, 0, 15, 42, 182, 1, 213, 54, 4, 132, 3, 1, 167, 255, 242, 42, 180, 0, 113]
abbrev dktX4_will_1 : List UInt8 := dkwX4_will_1 ++ dktX4_will_2
def dkwX4_will_0 : List UInt8 := [42, 27, 182, 1, 170, 153, 0, 13, 28, 3, 16, 30, 184, 1, 145, 154, 0, 5, 2, 172, 42, 182, 2, 10]
abbrev dktX4_will_0 : List UInt8 := dkwX4_will_0 ++ dktX4_will_1
theorem dksX4_will_0 : cX4_will.data.toList.drop 0 = dktX4_will_0 := by decide +kernel
theorem dksX4_will_1 : cX4_will.data.toList.drop 24 = dktX4_will_1 := dk_seg dksX4_will_0 24 rfl rfl
theorem dksX4_will_2 : cX4_will.data.toList.drop 47 = dktX4_will_2 := dk_seg dksX4_will_1 23 rfl rfl
theorem dX4_will_0 : decode cX4_will 0 = .ok (.aload_n 0, 1) := dk_42 (dk_at dksX4_will_0 0 rfl rfl)
theorem dX4_will_1 : decode cX4_will 1 = .ok (.iload_n 1, 1) := dk_27 (dk_at dksX4_will_0 1 rfl rfl)
theorem dX4_will_2 : decode cX4_will 2 = .ok (.invokevirtual 426, 3) := dk_182 1 170 (dk_at dksX4_will_0 2 rfl rfl)
theorem dX4_will_5 : decode cX4_will 5 = .ok (.ifCond .eq 13, 3) := dk_153 0 13 (dk_at dksX4_will_0 5 rfl rfl)
theorem dX4_will_8 : decode cX4_will 8 = .ok (.iload_n 2, 1) := dk_28 (dk_at dksX4_will_0 8 rfl rfl)
theorem dX4_will_9 : decode cX4_will 9 = .ok (.iconst 0, 1) := dk_3 (dk_at dksX4_will_0 9 rfl rfl)
theorem dX4_will_10 : decode cX4_will 10 = .ok (.bipush 30, 2) := dk_16 30 (dk_at dksX4_will_0 10 rfl rfl)
theorem dX4_will_12 : decode cX4_will 12 = .ok (.invokestatic 401, 3) := dk_184 1 145 (dk_at dksX4_will_0 12 rfl rfl)
theorem dX4_will_15 : decode cX4_will 15 = .ok (.ifCond .ne 5, 3) := dk_154 0 5 (dk_at dksX4_will_0 15 rfl rfl)
theorem dX4_will_18 : decode cX4_will 18 = .ok (.iconst (-1), 1) := dk_2 (dk_at dksX4_will_0 18 rfl rfl)
theorem dX4_will_19 : decode cX4_will 19 = .ok (.ireturn, 1) := dk_172 (dk_at dksX4_will_0 19 rfl rfl)
theorem dX4_will_20 : decode cX4_will 20 = .ok (.aload_n 0, 1) := dk_42 (dk_at dksX4_will_0 20 rfl rfl)
theorem dX4_will_21 : decode cX4_will 21 = .ok (.invokevirtual 522, 3) := dk_182 2 10 (dk_at dksX4_will_0 21 rfl rfl)
theorem dX4_will_24 : decode cX4_will 24 = .ok (.iconst 0, 1) := dk_3 (dk_at dksX4_will_1 0 rfl rfl)
theorem dX4_will_25 : decode cX4_will 25 = .ok (.istore_n 3, 1) := dk_62 (dk_at dksX4_will_1 1 rfl rfl)
theorem dX4_will_26 : decode cX4_will 26 = .ok (.iload_n 3, 1) := dk_29 (dk_at dksX4_will_1 2 rfl rfl)
theorem dX4_will_27 : decode cX4_will 27 = .ok (.iload_n 2, 1) := dk_28 (dk_at dksX4_will_1 3 rfl rfl)
theorem dX4_will_28 : decode cX4_will 28 = .ok (.if_icmp .ge 15, 3) := dk_162 0 15 (dk_at dksX4_will_1 4 rfl rfl)
theorem dX4_will_31 : decode cX4_will 31 = .ok (.aload_n 0, 1) := dk_42 (dk_at dksX4_will_1 7 rfl rfl)
theorem dX4_will_32 : decode cX4_will 32 = .ok (.invokevirtual 469, 3) := dk_182 1 213 (dk_at dksX4_will_1 8 rfl rfl)
theorem dX4_will_35 : decode cX4_will 35 = .ok (.istore 4, 2) := dk_54 4 (dk_at dksX4_will_1 11 rfl rfl)
theorem dX4_will_37 : decode cX4_will 37 = .ok (.iinc 3 1, 3) := dk_132 3 1 (dk_at dksX4_will_1 13 rfl rfl)
theorem dX4_will_40 : decode cX4_will 40 = .ok (.goto (-14), 3) := dk_167 255 242 (dk_at dksX4_will_1 16 rfl rfl)
theorem dX4_will_43 : decode cX4_will 43 = .ok (.aload_n 0, 1) := dk_42 (dk_at dksX4_will_1 19 rfl rfl)
theorem dX4_will_44 : decode cX4_will 44 = .ok (.getfield 113, 3) := dk_180 0 113 (dk_at dksX4_will_1 20 rfl rfl)
theorem dX4_will_47 : decode cX4_will 47 = .ok (.bipush 15, 2) := dk_16 15 (dk_at dksX4_will_2 0 rfl rfl)
theorem dX4_will_49 : decode cX4_will 49 = .ok (.iload_n 1, 1) := dk_27 (dk_at dksX4_will_2 2 rfl rfl)
theorem dX4_will_50 : decode cX4_will 50 = .ok (.iadd, 1) := dk_96 (dk_at dksX4_will_2 3 rfl rfl)
theorem dX4_will_51 : decode cX4_will 51 = .ok (.iaload, 1) := dk_46 (dk_at dksX4_will_2 4 rfl rfl)
theorem dX4_will_52 : decode cX4_will 52 = .ok (.istore_n 3, 1) := dk_62 (dk_at dksX4_will_2 5 rfl rfl)
theorem dX4_will_53 : decode cX4_will 53 = .ok (.aload_n 0, 1) := dk_42 (dk_at dksX4_will_2 6 rfl rfl)
theorem dX4_will_54 : decode cX4_will 54 = .ok (.invokevirtual 525, 3) := dk_182 2 13 (dk_at dksX4_will_2 7 rfl rfl)
theorem dX4_will_57 : decode cX4_will 57 = .ok (.iload_n 3, 1) := dk_29 (dk_at dksX4_will_2 10 rfl rfl)
theorem dX4_will_58 : decode cX4_will 58 = .ok (.ireturn, 1) := dk_172 (dk_at dksX4_will_2 11 rfl rfl)
abbrev cX4_thrive : ByteArray := prog_22_method_100_code
def yX4_thrive : MethodName := ⟨RX4, "thrive", "(II)I"⟩
def dkwX4_thrive_4 : List UInt8 := [180, 0, 113, 16, 15, 27, 96, 46, 62, 42, 182, 2, 13, 29, 172]
abbrev dktX4_thrive_4 : List UInt8 := dkwX4_thrive_4 ++ []
def dkwX4_thrive_3 : List UInt8 := [46, 100, 79, 132, 4, 1, 167, 255, 224, 42, 182, 1, 213, 54, 4, 132, 3, 1, 167, 255, 192, 42]
abbrev dktX4_thrive_3 : List UInt8 := dkwX4_thrive_3 ++ dktX4_thrive_4
def dkwX4_thrive_2 : List UInt8 := [6, 162, 0, 32, 42, 180, 0, 113, 3, 6, 27, 104, 96, 21, 4, 96, 92, 46, 42, 180, 0, 122, 21, 4]
abbrev dktX4_thrive_2 : List UInt8 := dkwX4_thrive_2 ++ dktX4_thrive_3
def dkwX4_thrive_1 : List UInt8 := [3, 62, 29, 28, 162, 0, 65, 42, 27, 3, 182, 1, 242, 42, 27, 4, 182, 1, 248, 3, 54, 4, 21, 4]
abbrev dktX4_thrive_1 : List UInt8 := dkwX4_thrive_1 ++ dktX4_thrive_2
def dkwX4_thrive_0 : List UInt8 := [42, 27, 182, 1, 170, 153, 0, 13, 28, 3, 16, 12, 184, 1, 145, 154, 0, 5, 2, 172, 42, 182, 2, 10]
abbrev dktX4_thrive_0 : List UInt8 := dkwX4_thrive_0 ++ dktX4_thrive_1
theorem dksX4_thrive_0 : cX4_thrive.data.toList.drop 0 = dktX4_thrive_0 := by decide +kernel
theorem dksX4_thrive_1 : cX4_thrive.data.toList.drop 24 = dktX4_thrive_1 := dk_seg dksX4_thrive_0 24 rfl rfl
theorem dksX4_thrive_2 : cX4_thrive.data.toList.drop 48 = dktX4_thrive_2 := dk_seg dksX4_thrive_1 24 rfl rfl
theorem dksX4_thrive_3 : cX4_thrive.data.toList.drop 72 = dktX4_thrive_3 := dk_seg dksX4_thrive_2 24 rfl rfl
theorem dksX4_thrive_4 : cX4_thrive.data.toList.drop 94 = dktX4_thrive_4 := dk_seg dksX4_thrive_3 22 rfl rfl
theorem dX4_thrive_0 : decode cX4_thrive 0 = .ok (.aload_n 0, 1) := dk_42 (dk_at dksX4_thrive_0 0 rfl rfl)
theorem dX4_thrive_1 : decode cX4_thrive 1 = .ok (.iload_n 1, 1) := dk_27 (dk_at dksX4_thrive_0 1 rfl rfl)
theorem dX4_thrive_2 : decode cX4_thrive 2 = .ok (.invokevirtual 426, 3) := dk_182 1 170 (dk_at dksX4_thrive_0 2 rfl rfl)
theorem dX4_thrive_5 : decode cX4_thrive 5 = .ok (.ifCond .eq 13, 3) := dk_153 0 13 (dk_at dksX4_thrive_0 5 rfl rfl)
theorem dX4_thrive_8 : decode cX4_thrive 8 = .ok (.iload_n 2, 1) := dk_28 (dk_at dksX4_thrive_0 8 rfl rfl)
theorem dX4_thrive_9 : decode cX4_thrive 9 = .ok (.iconst 0, 1) := dk_3 (dk_at dksX4_thrive_0 9 rfl rfl)
theorem dX4_thrive_10 : decode cX4_thrive 10 = .ok (.bipush 12, 2) := dk_16 12 (dk_at dksX4_thrive_0 10 rfl rfl)
theorem dX4_thrive_12 : decode cX4_thrive 12 = .ok (.invokestatic 401, 3) := dk_184 1 145 (dk_at dksX4_thrive_0 12 rfl rfl)
theorem dX4_thrive_15 : decode cX4_thrive 15 = .ok (.ifCond .ne 5, 3) := dk_154 0 5 (dk_at dksX4_thrive_0 15 rfl rfl)
theorem dX4_thrive_18 : decode cX4_thrive 18 = .ok (.iconst (-1), 1) := dk_2 (dk_at dksX4_thrive_0 18 rfl rfl)
theorem dX4_thrive_19 : decode cX4_thrive 19 = .ok (.ireturn, 1) := dk_172 (dk_at dksX4_thrive_0 19 rfl rfl)
theorem dX4_thrive_20 : decode cX4_thrive 20 = .ok (.aload_n 0, 1) := dk_42 (dk_at dksX4_thrive_0 20 rfl rfl)
theorem dX4_thrive_21 : decode cX4_thrive 21 = .ok (.invokevirtual 522, 3) := dk_182 2 10 (dk_at dksX4_thrive_0 21 rfl rfl)
theorem dX4_thrive_24 : decode cX4_thrive 24 = .ok (.iconst 0, 1) := dk_3 (dk_at dksX4_thrive_1 0 rfl rfl)
theorem dX4_thrive_25 : decode cX4_thrive 25 = .ok (.istore_n 3, 1) := dk_62 (dk_at dksX4_thrive_1 1 rfl rfl)
theorem dX4_thrive_26 : decode cX4_thrive 26 = .ok (.iload_n 3, 1) := dk_29 (dk_at dksX4_thrive_1 2 rfl rfl)
theorem dX4_thrive_27 : decode cX4_thrive 27 = .ok (.iload_n 2, 1) := dk_28 (dk_at dksX4_thrive_1 3 rfl rfl)
theorem dX4_thrive_28 : decode cX4_thrive 28 = .ok (.if_icmp .ge 65, 3) := dk_162 0 65 (dk_at dksX4_thrive_1 4 rfl rfl)
theorem dX4_thrive_31 : decode cX4_thrive 31 = .ok (.aload_n 0, 1) := dk_42 (dk_at dksX4_thrive_1 7 rfl rfl)
theorem dX4_thrive_32 : decode cX4_thrive 32 = .ok (.iload_n 1, 1) := dk_27 (dk_at dksX4_thrive_1 8 rfl rfl)
theorem dX4_thrive_33 : decode cX4_thrive 33 = .ok (.iconst 0, 1) := dk_3 (dk_at dksX4_thrive_1 9 rfl rfl)
theorem dX4_thrive_34 : decode cX4_thrive 34 = .ok (.invokevirtual 498, 3) := dk_182 1 242 (dk_at dksX4_thrive_1 10 rfl rfl)
theorem dX4_thrive_37 : decode cX4_thrive 37 = .ok (.aload_n 0, 1) := dk_42 (dk_at dksX4_thrive_1 13 rfl rfl)
theorem dX4_thrive_38 : decode cX4_thrive 38 = .ok (.iload_n 1, 1) := dk_27 (dk_at dksX4_thrive_1 14 rfl rfl)
theorem dX4_thrive_39 : decode cX4_thrive 39 = .ok (.iconst 1, 1) := dk_4 (dk_at dksX4_thrive_1 15 rfl rfl)
theorem dX4_thrive_40 : decode cX4_thrive 40 = .ok (.invokevirtual 504, 3) := dk_182 1 248 (dk_at dksX4_thrive_1 16 rfl rfl)
theorem dX4_thrive_43 : decode cX4_thrive 43 = .ok (.iconst 0, 1) := dk_3 (dk_at dksX4_thrive_1 19 rfl rfl)
theorem dX4_thrive_44 : decode cX4_thrive 44 = .ok (.istore 4, 2) := dk_54 4 (dk_at dksX4_thrive_1 20 rfl rfl)
theorem dX4_thrive_46 : decode cX4_thrive 46 = .ok (.iload 4, 2) := dk_21 4 (dk_at dksX4_thrive_1 22 rfl rfl)
theorem dX4_thrive_48 : decode cX4_thrive 48 = .ok (.iconst 3, 1) := dk_6 (dk_at dksX4_thrive_2 0 rfl rfl)
theorem dX4_thrive_49 : decode cX4_thrive 49 = .ok (.if_icmp .ge 32, 3) := dk_162 0 32 (dk_at dksX4_thrive_2 1 rfl rfl)
theorem dX4_thrive_52 : decode cX4_thrive 52 = .ok (.aload_n 0, 1) := dk_42 (dk_at dksX4_thrive_2 4 rfl rfl)
theorem dX4_thrive_53 : decode cX4_thrive 53 = .ok (.getfield 113, 3) := dk_180 0 113 (dk_at dksX4_thrive_2 5 rfl rfl)
theorem dX4_thrive_56 : decode cX4_thrive 56 = .ok (.iconst 0, 1) := dk_3 (dk_at dksX4_thrive_2 8 rfl rfl)
theorem dX4_thrive_57 : decode cX4_thrive 57 = .ok (.iconst 3, 1) := dk_6 (dk_at dksX4_thrive_2 9 rfl rfl)
theorem dX4_thrive_58 : decode cX4_thrive 58 = .ok (.iload_n 1, 1) := dk_27 (dk_at dksX4_thrive_2 10 rfl rfl)
theorem dX4_thrive_59 : decode cX4_thrive 59 = .ok (.imul, 1) := dk_104 (dk_at dksX4_thrive_2 11 rfl rfl)
theorem dX4_thrive_60 : decode cX4_thrive 60 = .ok (.iadd, 1) := dk_96 (dk_at dksX4_thrive_2 12 rfl rfl)
theorem dX4_thrive_61 : decode cX4_thrive 61 = .ok (.iload 4, 2) := dk_21 4 (dk_at dksX4_thrive_2 13 rfl rfl)
theorem dX4_thrive_63 : decode cX4_thrive 63 = .ok (.iadd, 1) := dk_96 (dk_at dksX4_thrive_2 15 rfl rfl)
theorem dX4_thrive_64 : decode cX4_thrive 64 = .ok (.dup2, 1) := dk_92 (dk_at dksX4_thrive_2 16 rfl rfl)
theorem dX4_thrive_65 : decode cX4_thrive 65 = .ok (.iaload, 1) := dk_46 (dk_at dksX4_thrive_2 17 rfl rfl)
theorem dX4_thrive_66 : decode cX4_thrive 66 = .ok (.aload_n 0, 1) := dk_42 (dk_at dksX4_thrive_2 18 rfl rfl)
theorem dX4_thrive_67 : decode cX4_thrive 67 = .ok (.getfield 122, 3) := dk_180 0 122 (dk_at dksX4_thrive_2 19 rfl rfl)
theorem dX4_thrive_70 : decode cX4_thrive 70 = .ok (.iload 4, 2) := dk_21 4 (dk_at dksX4_thrive_2 22 rfl rfl)
theorem dX4_thrive_72 : decode cX4_thrive 72 = .ok (.iaload, 1) := dk_46 (dk_at dksX4_thrive_3 0 rfl rfl)
theorem dX4_thrive_73 : decode cX4_thrive 73 = .ok (.isub, 1) := dk_100 (dk_at dksX4_thrive_3 1 rfl rfl)
theorem dX4_thrive_74 : decode cX4_thrive 74 = .ok (.iastore, 1) := dk_79 (dk_at dksX4_thrive_3 2 rfl rfl)
theorem dX4_thrive_75 : decode cX4_thrive 75 = .ok (.iinc 4 1, 3) := dk_132 4 1 (dk_at dksX4_thrive_3 3 rfl rfl)
theorem dX4_thrive_78 : decode cX4_thrive 78 = .ok (.goto (-32), 3) := dk_167 255 224 (dk_at dksX4_thrive_3 6 rfl rfl)
theorem dX4_thrive_81 : decode cX4_thrive 81 = .ok (.aload_n 0, 1) := dk_42 (dk_at dksX4_thrive_3 9 rfl rfl)
theorem dX4_thrive_82 : decode cX4_thrive 82 = .ok (.invokevirtual 469, 3) := dk_182 1 213 (dk_at dksX4_thrive_3 10 rfl rfl)
theorem dX4_thrive_85 : decode cX4_thrive 85 = .ok (.istore 4, 2) := dk_54 4 (dk_at dksX4_thrive_3 13 rfl rfl)
theorem dX4_thrive_87 : decode cX4_thrive 87 = .ok (.iinc 3 1, 3) := dk_132 3 1 (dk_at dksX4_thrive_3 15 rfl rfl)
theorem dX4_thrive_90 : decode cX4_thrive 90 = .ok (.goto (-64), 3) := dk_167 255 192 (dk_at dksX4_thrive_3 18 rfl rfl)
theorem dX4_thrive_93 : decode cX4_thrive 93 = .ok (.aload_n 0, 1) := dk_42 (dk_at dksX4_thrive_3 21 rfl rfl)
theorem dX4_thrive_94 : decode cX4_thrive 94 = .ok (.getfield 113, 3) := dk_180 0 113 (dk_at dksX4_thrive_4 0 rfl rfl)
theorem dX4_thrive_97 : decode cX4_thrive 97 = .ok (.bipush 15, 2) := dk_16 15 (dk_at dksX4_thrive_4 3 rfl rfl)
theorem dX4_thrive_99 : decode cX4_thrive 99 = .ok (.iload_n 1, 1) := dk_27 (dk_at dksX4_thrive_4 5 rfl rfl)
theorem dX4_thrive_100 : decode cX4_thrive 100 = .ok (.iadd, 1) := dk_96 (dk_at dksX4_thrive_4 6 rfl rfl)
theorem dX4_thrive_101 : decode cX4_thrive 101 = .ok (.iaload, 1) := dk_46 (dk_at dksX4_thrive_4 7 rfl rfl)
theorem dX4_thrive_102 : decode cX4_thrive 102 = .ok (.istore_n 3, 1) := dk_62 (dk_at dksX4_thrive_4 8 rfl rfl)
theorem dX4_thrive_103 : decode cX4_thrive 103 = .ok (.aload_n 0, 1) := dk_42 (dk_at dksX4_thrive_4 9 rfl rfl)
theorem dX4_thrive_104 : decode cX4_thrive 104 = .ok (.invokevirtual 525, 3) := dk_182 2 13 (dk_at dksX4_thrive_4 10 rfl rfl)
theorem dX4_thrive_107 : decode cX4_thrive 107 = .ok (.iload_n 3, 1) := dk_29 (dk_at dksX4_thrive_4 13 rfl rfl)
theorem dX4_thrive_108 : decode cX4_thrive 108 = .ok (.ireturn, 1) := dk_172 (dk_at dksX4_thrive_4 14 rfl rfl)
abbrev cX4_saves : ByteArray := prog_22_method_101_code
def yX4_saves : MethodName := ⟨RX4, "saves", "(III)I"⟩
def dkwX4_saves_3 : List UInt8 := [167, 255, 226, 2, 172]
abbrev dktX4_saves_3 : List UInt8 := dkwX4_saves_3 ++ []
def dkwX4_saves_2 : List UInt8 := [21, 4, 29, 161, 0, 6, 21, 5, 172, 21, 4, 42, 27, 28, 182, 1, 177, 96, 54, 4, 132, 5, 1]
abbrev dktX4_saves_2 : List UInt8 := dkwX4_saves_2 ++ dktX4_saves_3
def dkwX4_saves_1 : List UInt8 := [154, 0, 5, 2, 172, 42, 27, 28, 182, 1, 183, 54, 4, 3, 54, 5, 21, 5, 16, 60, 163, 0, 29]
abbrev dktX4_saves_1 : List UInt8 := dkwX4_saves_1 ++ dktX4_saves_2
def dkwX4_saves_0 : List UInt8 := [42, 27, 182, 1, 170, 153, 0, 21, 42, 28, 182, 1, 180, 153, 0, 13, 29, 3, 16, 99, 184, 1, 145]
abbrev dktX4_saves_0 : List UInt8 := dkwX4_saves_0 ++ dktX4_saves_1
theorem dksX4_saves_0 : cX4_saves.data.toList.drop 0 = dktX4_saves_0 := by decide +kernel
theorem dksX4_saves_1 : cX4_saves.data.toList.drop 23 = dktX4_saves_1 := dk_seg dksX4_saves_0 23 rfl rfl
theorem dksX4_saves_2 : cX4_saves.data.toList.drop 46 = dktX4_saves_2 := dk_seg dksX4_saves_1 23 rfl rfl
theorem dksX4_saves_3 : cX4_saves.data.toList.drop 69 = dktX4_saves_3 := dk_seg dksX4_saves_2 23 rfl rfl
theorem dX4_saves_0 : decode cX4_saves 0 = .ok (.aload_n 0, 1) := dk_42 (dk_at dksX4_saves_0 0 rfl rfl)
theorem dX4_saves_1 : decode cX4_saves 1 = .ok (.iload_n 1, 1) := dk_27 (dk_at dksX4_saves_0 1 rfl rfl)
theorem dX4_saves_2 : decode cX4_saves 2 = .ok (.invokevirtual 426, 3) := dk_182 1 170 (dk_at dksX4_saves_0 2 rfl rfl)
theorem dX4_saves_5 : decode cX4_saves 5 = .ok (.ifCond .eq 21, 3) := dk_153 0 21 (dk_at dksX4_saves_0 5 rfl rfl)
theorem dX4_saves_8 : decode cX4_saves 8 = .ok (.aload_n 0, 1) := dk_42 (dk_at dksX4_saves_0 8 rfl rfl)
theorem dX4_saves_9 : decode cX4_saves 9 = .ok (.iload_n 2, 1) := dk_28 (dk_at dksX4_saves_0 9 rfl rfl)
theorem dX4_saves_10 : decode cX4_saves 10 = .ok (.invokevirtual 436, 3) := dk_182 1 180 (dk_at dksX4_saves_0 10 rfl rfl)
theorem dX4_saves_13 : decode cX4_saves 13 = .ok (.ifCond .eq 13, 3) := dk_153 0 13 (dk_at dksX4_saves_0 13 rfl rfl)
theorem dX4_saves_16 : decode cX4_saves 16 = .ok (.iload_n 3, 1) := dk_29 (dk_at dksX4_saves_0 16 rfl rfl)
theorem dX4_saves_17 : decode cX4_saves 17 = .ok (.iconst 0, 1) := dk_3 (dk_at dksX4_saves_0 17 rfl rfl)
theorem dX4_saves_18 : decode cX4_saves 18 = .ok (.bipush 99, 2) := dk_16 99 (dk_at dksX4_saves_0 18 rfl rfl)
theorem dX4_saves_20 : decode cX4_saves 20 = .ok (.invokestatic 401, 3) := dk_184 1 145 (dk_at dksX4_saves_0 20 rfl rfl)
theorem dX4_saves_23 : decode cX4_saves 23 = .ok (.ifCond .ne 5, 3) := dk_154 0 5 (dk_at dksX4_saves_1 0 rfl rfl)
theorem dX4_saves_26 : decode cX4_saves 26 = .ok (.iconst (-1), 1) := dk_2 (dk_at dksX4_saves_1 3 rfl rfl)
theorem dX4_saves_27 : decode cX4_saves 27 = .ok (.ireturn, 1) := dk_172 (dk_at dksX4_saves_1 4 rfl rfl)
theorem dX4_saves_28 : decode cX4_saves 28 = .ok (.aload_n 0, 1) := dk_42 (dk_at dksX4_saves_1 5 rfl rfl)
theorem dX4_saves_29 : decode cX4_saves 29 = .ok (.iload_n 1, 1) := dk_27 (dk_at dksX4_saves_1 6 rfl rfl)
theorem dX4_saves_30 : decode cX4_saves 30 = .ok (.iload_n 2, 1) := dk_28 (dk_at dksX4_saves_1 7 rfl rfl)
theorem dX4_saves_31 : decode cX4_saves 31 = .ok (.invokevirtual 439, 3) := dk_182 1 183 (dk_at dksX4_saves_1 8 rfl rfl)
theorem dX4_saves_34 : decode cX4_saves 34 = .ok (.istore 4, 2) := dk_54 4 (dk_at dksX4_saves_1 11 rfl rfl)
theorem dX4_saves_36 : decode cX4_saves 36 = .ok (.iconst 0, 1) := dk_3 (dk_at dksX4_saves_1 13 rfl rfl)
theorem dX4_saves_37 : decode cX4_saves 37 = .ok (.istore 5, 2) := dk_54 5 (dk_at dksX4_saves_1 14 rfl rfl)
theorem dX4_saves_39 : decode cX4_saves 39 = .ok (.iload 5, 2) := dk_21 5 (dk_at dksX4_saves_1 16 rfl rfl)
theorem dX4_saves_41 : decode cX4_saves 41 = .ok (.bipush 60, 2) := dk_16 60 (dk_at dksX4_saves_1 18 rfl rfl)
theorem dX4_saves_43 : decode cX4_saves 43 = .ok (.if_icmp .gt 29, 3) := dk_163 0 29 (dk_at dksX4_saves_1 20 rfl rfl)
theorem dX4_saves_46 : decode cX4_saves 46 = .ok (.iload 4, 2) := dk_21 4 (dk_at dksX4_saves_2 0 rfl rfl)
theorem dX4_saves_48 : decode cX4_saves 48 = .ok (.iload_n 3, 1) := dk_29 (dk_at dksX4_saves_2 2 rfl rfl)
theorem dX4_saves_49 : decode cX4_saves 49 = .ok (.if_icmp .lt 6, 3) := dk_161 0 6 (dk_at dksX4_saves_2 3 rfl rfl)
theorem dX4_saves_52 : decode cX4_saves 52 = .ok (.iload 5, 2) := dk_21 5 (dk_at dksX4_saves_2 6 rfl rfl)
theorem dX4_saves_54 : decode cX4_saves 54 = .ok (.ireturn, 1) := dk_172 (dk_at dksX4_saves_2 8 rfl rfl)
theorem dX4_saves_55 : decode cX4_saves 55 = .ok (.iload 4, 2) := dk_21 4 (dk_at dksX4_saves_2 9 rfl rfl)
theorem dX4_saves_57 : decode cX4_saves 57 = .ok (.aload_n 0, 1) := dk_42 (dk_at dksX4_saves_2 11 rfl rfl)
theorem dX4_saves_58 : decode cX4_saves 58 = .ok (.iload_n 1, 1) := dk_27 (dk_at dksX4_saves_2 12 rfl rfl)
theorem dX4_saves_59 : decode cX4_saves 59 = .ok (.iload_n 2, 1) := dk_28 (dk_at dksX4_saves_2 13 rfl rfl)
theorem dX4_saves_60 : decode cX4_saves 60 = .ok (.invokevirtual 433, 3) := dk_182 1 177 (dk_at dksX4_saves_2 14 rfl rfl)
theorem dX4_saves_63 : decode cX4_saves 63 = .ok (.iadd, 1) := dk_96 (dk_at dksX4_saves_2 17 rfl rfl)
theorem dX4_saves_64 : decode cX4_saves 64 = .ok (.istore 4, 2) := dk_54 4 (dk_at dksX4_saves_2 18 rfl rfl)
theorem dX4_saves_66 : decode cX4_saves 66 = .ok (.iinc 5 1, 3) := dk_132 5 1 (dk_at dksX4_saves_2 20 rfl rfl)
theorem dX4_saves_69 : decode cX4_saves 69 = .ok (.goto (-30), 3) := dk_167 255 226 (dk_at dksX4_saves_3 0 rfl rfl)
theorem dX4_saves_72 : decode cX4_saves 72 = .ok (.iconst (-1), 1) := dk_2 (dk_at dksX4_saves_3 3 rfl rfl)
theorem dX4_saves_73 : decode cX4_saves 73 = .ok (.ireturn, 1) := dk_172 (dk_at dksX4_saves_3 4 rfl rfl)
abbrev cX4_richest : ByteArray := prog_22_method_102_code
def yX4_richest : MethodName := ⟨RX4, "richest", "()I"⟩
def dkwX4_richest_1 : List UInt8 := [27, 182, 1, 174, 164, 0, 5, 28, 60, 132, 2, 1, 167, 255, 224, 27, 172]
abbrev dktX4_richest_1 : List UInt8 := dkwX4_richest_1 ++ []
def dkwX4_richest_0 : List UInt8 := [2, 60, 3, 61, 28, 42, 182, 1, 142, 162, 0, 30, 27, 155, 0, 18, 42, 3, 28, 182, 1, 174, 42, 3]
abbrev dktX4_richest_0 : List UInt8 := dkwX4_richest_0 ++ dktX4_richest_1
theorem dksX4_richest_0 : cX4_richest.data.toList.drop 0 = dktX4_richest_0 := by decide +kernel
theorem dksX4_richest_1 : cX4_richest.data.toList.drop 24 = dktX4_richest_1 := dk_seg dksX4_richest_0 24 rfl rfl
theorem dX4_richest_0 : decode cX4_richest 0 = .ok (.iconst (-1), 1) := dk_2 (dk_at dksX4_richest_0 0 rfl rfl)
theorem dX4_richest_1 : decode cX4_richest 1 = .ok (.istore_n 1, 1) := dk_60 (dk_at dksX4_richest_0 1 rfl rfl)
theorem dX4_richest_2 : decode cX4_richest 2 = .ok (.iconst 0, 1) := dk_3 (dk_at dksX4_richest_0 2 rfl rfl)
theorem dX4_richest_3 : decode cX4_richest 3 = .ok (.istore_n 2, 1) := dk_61 (dk_at dksX4_richest_0 3 rfl rfl)
theorem dX4_richest_4 : decode cX4_richest 4 = .ok (.iload_n 2, 1) := dk_28 (dk_at dksX4_richest_0 4 rfl rfl)
theorem dX4_richest_5 : decode cX4_richest 5 = .ok (.aload_n 0, 1) := dk_42 (dk_at dksX4_richest_0 5 rfl rfl)
theorem dX4_richest_6 : decode cX4_richest 6 = .ok (.invokevirtual 398, 3) := dk_182 1 142 (dk_at dksX4_richest_0 6 rfl rfl)
theorem dX4_richest_9 : decode cX4_richest 9 = .ok (.if_icmp .ge 30, 3) := dk_162 0 30 (dk_at dksX4_richest_0 9 rfl rfl)
theorem dX4_richest_12 : decode cX4_richest 12 = .ok (.iload_n 1, 1) := dk_27 (dk_at dksX4_richest_0 12 rfl rfl)
theorem dX4_richest_13 : decode cX4_richest 13 = .ok (.ifCond .lt 18, 3) := dk_155 0 18 (dk_at dksX4_richest_0 13 rfl rfl)
theorem dX4_richest_16 : decode cX4_richest 16 = .ok (.aload_n 0, 1) := dk_42 (dk_at dksX4_richest_0 16 rfl rfl)
theorem dX4_richest_17 : decode cX4_richest 17 = .ok (.iconst 0, 1) := dk_3 (dk_at dksX4_richest_0 17 rfl rfl)
theorem dX4_richest_18 : decode cX4_richest 18 = .ok (.iload_n 2, 1) := dk_28 (dk_at dksX4_richest_0 18 rfl rfl)
theorem dX4_richest_19 : decode cX4_richest 19 = .ok (.invokevirtual 430, 3) := dk_182 1 174 (dk_at dksX4_richest_0 19 rfl rfl)
theorem dX4_richest_22 : decode cX4_richest 22 = .ok (.aload_n 0, 1) := dk_42 (dk_at dksX4_richest_0 22 rfl rfl)
theorem dX4_richest_23 : decode cX4_richest 23 = .ok (.iconst 0, 1) := dk_3 (dk_at dksX4_richest_0 23 rfl rfl)
theorem dX4_richest_24 : decode cX4_richest 24 = .ok (.iload_n 1, 1) := dk_27 (dk_at dksX4_richest_1 0 rfl rfl)
theorem dX4_richest_25 : decode cX4_richest 25 = .ok (.invokevirtual 430, 3) := dk_182 1 174 (dk_at dksX4_richest_1 1 rfl rfl)
theorem dX4_richest_28 : decode cX4_richest 28 = .ok (.if_icmp .le 5, 3) := dk_164 0 5 (dk_at dksX4_richest_1 4 rfl rfl)
theorem dX4_richest_31 : decode cX4_richest 31 = .ok (.iload_n 2, 1) := dk_28 (dk_at dksX4_richest_1 7 rfl rfl)
theorem dX4_richest_32 : decode cX4_richest 32 = .ok (.istore_n 1, 1) := dk_60 (dk_at dksX4_richest_1 8 rfl rfl)
theorem dX4_richest_33 : decode cX4_richest 33 = .ok (.iinc 2 1, 3) := dk_132 2 1 (dk_at dksX4_richest_1 9 rfl rfl)
theorem dX4_richest_36 : decode cX4_richest 36 = .ok (.goto (-32), 3) := dk_167 255 224 (dk_at dksX4_richest_1 12 rfl rfl)
theorem dX4_richest_39 : decode cX4_richest 39 = .ok (.iload_n 1, 1) := dk_27 (dk_at dksX4_richest_1 15 rfl rfl)
theorem dX4_richest_40 : decode cX4_richest 40 = .ok (.ireturn, 1) := dk_172 (dk_at dksX4_richest_1 16 rfl rfl)
abbrev cX4_gulf : ByteArray := prog_22_method_103_code
def yX4_gulf : MethodName := ⟨RX4, "gulf", "()I"⟩
def dkwX4_gulf_2 : List UInt8 := [182, 2, 22, 182, 1, 174, 27, 100, 172]
abbrev dktX4_gulf_2 : List UInt8 := dkwX4_gulf_2 ++ []
def dkwX4_gulf_1 : List UInt8 := [162, 0, 20, 27, 42, 3, 28, 182, 1, 174, 184, 1, 196, 60, 132, 2, 1, 167, 255, 234, 42, 3, 42]
abbrev dktX4_gulf_1 : List UInt8 := dkwX4_gulf_1 ++ dktX4_gulf_2
def dkwX4_gulf_0 : List UInt8 := [42, 182, 1, 142, 154, 0, 5, 2, 172, 42, 3, 3, 182, 1, 174, 60, 3, 61, 28, 42, 182, 1, 142]
abbrev dktX4_gulf_0 : List UInt8 := dkwX4_gulf_0 ++ dktX4_gulf_1
theorem dksX4_gulf_0 : cX4_gulf.data.toList.drop 0 = dktX4_gulf_0 := by decide +kernel
theorem dksX4_gulf_1 : cX4_gulf.data.toList.drop 23 = dktX4_gulf_1 := dk_seg dksX4_gulf_0 23 rfl rfl
theorem dksX4_gulf_2 : cX4_gulf.data.toList.drop 46 = dktX4_gulf_2 := dk_seg dksX4_gulf_1 23 rfl rfl
theorem dX4_gulf_0 : decode cX4_gulf 0 = .ok (.aload_n 0, 1) := dk_42 (dk_at dksX4_gulf_0 0 rfl rfl)
theorem dX4_gulf_1 : decode cX4_gulf 1 = .ok (.invokevirtual 398, 3) := dk_182 1 142 (dk_at dksX4_gulf_0 1 rfl rfl)
theorem dX4_gulf_4 : decode cX4_gulf 4 = .ok (.ifCond .ne 5, 3) := dk_154 0 5 (dk_at dksX4_gulf_0 4 rfl rfl)
theorem dX4_gulf_7 : decode cX4_gulf 7 = .ok (.iconst (-1), 1) := dk_2 (dk_at dksX4_gulf_0 7 rfl rfl)
theorem dX4_gulf_8 : decode cX4_gulf 8 = .ok (.ireturn, 1) := dk_172 (dk_at dksX4_gulf_0 8 rfl rfl)
theorem dX4_gulf_9 : decode cX4_gulf 9 = .ok (.aload_n 0, 1) := dk_42 (dk_at dksX4_gulf_0 9 rfl rfl)
theorem dX4_gulf_10 : decode cX4_gulf 10 = .ok (.iconst 0, 1) := dk_3 (dk_at dksX4_gulf_0 10 rfl rfl)
theorem dX4_gulf_11 : decode cX4_gulf 11 = .ok (.iconst 0, 1) := dk_3 (dk_at dksX4_gulf_0 11 rfl rfl)
theorem dX4_gulf_12 : decode cX4_gulf 12 = .ok (.invokevirtual 430, 3) := dk_182 1 174 (dk_at dksX4_gulf_0 12 rfl rfl)
theorem dX4_gulf_15 : decode cX4_gulf 15 = .ok (.istore_n 1, 1) := dk_60 (dk_at dksX4_gulf_0 15 rfl rfl)
theorem dX4_gulf_16 : decode cX4_gulf 16 = .ok (.iconst 0, 1) := dk_3 (dk_at dksX4_gulf_0 16 rfl rfl)
theorem dX4_gulf_17 : decode cX4_gulf 17 = .ok (.istore_n 2, 1) := dk_61 (dk_at dksX4_gulf_0 17 rfl rfl)
theorem dX4_gulf_18 : decode cX4_gulf 18 = .ok (.iload_n 2, 1) := dk_28 (dk_at dksX4_gulf_0 18 rfl rfl)
theorem dX4_gulf_19 : decode cX4_gulf 19 = .ok (.aload_n 0, 1) := dk_42 (dk_at dksX4_gulf_0 19 rfl rfl)
theorem dX4_gulf_20 : decode cX4_gulf 20 = .ok (.invokevirtual 398, 3) := dk_182 1 142 (dk_at dksX4_gulf_0 20 rfl rfl)
theorem dX4_gulf_23 : decode cX4_gulf 23 = .ok (.if_icmp .ge 20, 3) := dk_162 0 20 (dk_at dksX4_gulf_1 0 rfl rfl)
theorem dX4_gulf_26 : decode cX4_gulf 26 = .ok (.iload_n 1, 1) := dk_27 (dk_at dksX4_gulf_1 3 rfl rfl)
theorem dX4_gulf_27 : decode cX4_gulf 27 = .ok (.aload_n 0, 1) := dk_42 (dk_at dksX4_gulf_1 4 rfl rfl)
theorem dX4_gulf_28 : decode cX4_gulf 28 = .ok (.iconst 0, 1) := dk_3 (dk_at dksX4_gulf_1 5 rfl rfl)
theorem dX4_gulf_29 : decode cX4_gulf 29 = .ok (.iload_n 2, 1) := dk_28 (dk_at dksX4_gulf_1 6 rfl rfl)
theorem dX4_gulf_30 : decode cX4_gulf 30 = .ok (.invokevirtual 430, 3) := dk_182 1 174 (dk_at dksX4_gulf_1 7 rfl rfl)
theorem dX4_gulf_33 : decode cX4_gulf 33 = .ok (.invokestatic 452, 3) := dk_184 1 196 (dk_at dksX4_gulf_1 10 rfl rfl)
theorem dX4_gulf_36 : decode cX4_gulf 36 = .ok (.istore_n 1, 1) := dk_60 (dk_at dksX4_gulf_1 13 rfl rfl)
theorem dX4_gulf_37 : decode cX4_gulf 37 = .ok (.iinc 2 1, 3) := dk_132 2 1 (dk_at dksX4_gulf_1 14 rfl rfl)
theorem dX4_gulf_40 : decode cX4_gulf 40 = .ok (.goto (-22), 3) := dk_167 255 234 (dk_at dksX4_gulf_1 17 rfl rfl)
theorem dX4_gulf_43 : decode cX4_gulf 43 = .ok (.aload_n 0, 1) := dk_42 (dk_at dksX4_gulf_1 20 rfl rfl)
theorem dX4_gulf_44 : decode cX4_gulf 44 = .ok (.iconst 0, 1) := dk_3 (dk_at dksX4_gulf_1 21 rfl rfl)
theorem dX4_gulf_45 : decode cX4_gulf 45 = .ok (.aload_n 0, 1) := dk_42 (dk_at dksX4_gulf_1 22 rfl rfl)
theorem dX4_gulf_46 : decode cX4_gulf 46 = .ok (.invokevirtual 534, 3) := dk_182 2 22 (dk_at dksX4_gulf_2 0 rfl rfl)
theorem dX4_gulf_49 : decode cX4_gulf 49 = .ok (.invokevirtual 430, 3) := dk_182 1 174 (dk_at dksX4_gulf_2 3 rfl rfl)
theorem dX4_gulf_52 : decode cX4_gulf 52 = .ok (.iload_n 1, 1) := dk_27 (dk_at dksX4_gulf_2 6 rfl rfl)
theorem dX4_gulf_53 : decode cX4_gulf 53 = .ok (.isub, 1) := dk_100 (dk_at dksX4_gulf_2 7 rfl rfl)
theorem dX4_gulf_54 : decode cX4_gulf 54 = .ok (.ireturn, 1) := dk_172 (dk_at dksX4_gulf_2 8 rfl rfl)
abbrev cX4_most : ByteArray := prog_22_method_104_code
def yX4_most : MethodName := ⟨RX4, "most", "(I)I"⟩
def dkwX4_most_2 : List UInt8 := [182, 1, 183, 164, 0, 5, 29, 61, 132, 3, 1, 167, 255, 223, 28, 172]
abbrev dktX4_most_2 : List UInt8 := dkwX4_most_2 ++ []
def dkwX4_most_1 : List UInt8 := [4, 62, 29, 42, 180, 0, 20, 42, 180, 1, 45, 46, 162, 0, 26, 42, 27, 29, 182, 1, 183, 42, 27, 28]
abbrev dktX4_most_1 : List UInt8 := dkwX4_most_1 ++ dktX4_most_2
def dkwX4_most_0 : List UInt8 := [42, 27, 182, 1, 170, 153, 0, 15, 42, 180, 0, 20, 42, 180, 1, 45, 46, 154, 0, 5, 2, 172, 3, 61]
abbrev dktX4_most_0 : List UInt8 := dkwX4_most_0 ++ dktX4_most_1
theorem dksX4_most_0 : cX4_most.data.toList.drop 0 = dktX4_most_0 := by decide +kernel
theorem dksX4_most_1 : cX4_most.data.toList.drop 24 = dktX4_most_1 := dk_seg dksX4_most_0 24 rfl rfl
theorem dksX4_most_2 : cX4_most.data.toList.drop 48 = dktX4_most_2 := dk_seg dksX4_most_1 24 rfl rfl
theorem dX4_most_0 : decode cX4_most 0 = .ok (.aload_n 0, 1) := dk_42 (dk_at dksX4_most_0 0 rfl rfl)
theorem dX4_most_1 : decode cX4_most 1 = .ok (.iload_n 1, 1) := dk_27 (dk_at dksX4_most_0 1 rfl rfl)
theorem dX4_most_2 : decode cX4_most 2 = .ok (.invokevirtual 426, 3) := dk_182 1 170 (dk_at dksX4_most_0 2 rfl rfl)
theorem dX4_most_5 : decode cX4_most 5 = .ok (.ifCond .eq 15, 3) := dk_153 0 15 (dk_at dksX4_most_0 5 rfl rfl)
theorem dX4_most_8 : decode cX4_most 8 = .ok (.aload_n 0, 1) := dk_42 (dk_at dksX4_most_0 8 rfl rfl)
theorem dX4_most_9 : decode cX4_most 9 = .ok (.getfield 20, 3) := dk_180 0 20 (dk_at dksX4_most_0 9 rfl rfl)
theorem dX4_most_12 : decode cX4_most 12 = .ok (.aload_n 0, 1) := dk_42 (dk_at dksX4_most_0 12 rfl rfl)
theorem dX4_most_13 : decode cX4_most 13 = .ok (.getfield 301, 3) := dk_180 1 45 (dk_at dksX4_most_0 13 rfl rfl)
theorem dX4_most_16 : decode cX4_most 16 = .ok (.iaload, 1) := dk_46 (dk_at dksX4_most_0 16 rfl rfl)
theorem dX4_most_17 : decode cX4_most 17 = .ok (.ifCond .ne 5, 3) := dk_154 0 5 (dk_at dksX4_most_0 17 rfl rfl)
theorem dX4_most_20 : decode cX4_most 20 = .ok (.iconst (-1), 1) := dk_2 (dk_at dksX4_most_0 20 rfl rfl)
theorem dX4_most_21 : decode cX4_most 21 = .ok (.ireturn, 1) := dk_172 (dk_at dksX4_most_0 21 rfl rfl)
theorem dX4_most_22 : decode cX4_most 22 = .ok (.iconst 0, 1) := dk_3 (dk_at dksX4_most_0 22 rfl rfl)
theorem dX4_most_23 : decode cX4_most 23 = .ok (.istore_n 2, 1) := dk_61 (dk_at dksX4_most_0 23 rfl rfl)
theorem dX4_most_24 : decode cX4_most 24 = .ok (.iconst 1, 1) := dk_4 (dk_at dksX4_most_1 0 rfl rfl)
theorem dX4_most_25 : decode cX4_most 25 = .ok (.istore_n 3, 1) := dk_62 (dk_at dksX4_most_1 1 rfl rfl)
theorem dX4_most_26 : decode cX4_most 26 = .ok (.iload_n 3, 1) := dk_29 (dk_at dksX4_most_1 2 rfl rfl)
theorem dX4_most_27 : decode cX4_most 27 = .ok (.aload_n 0, 1) := dk_42 (dk_at dksX4_most_1 3 rfl rfl)
theorem dX4_most_28 : decode cX4_most 28 = .ok (.getfield 20, 3) := dk_180 0 20 (dk_at dksX4_most_1 4 rfl rfl)
theorem dX4_most_31 : decode cX4_most 31 = .ok (.aload_n 0, 1) := dk_42 (dk_at dksX4_most_1 7 rfl rfl)
theorem dX4_most_32 : decode cX4_most 32 = .ok (.getfield 301, 3) := dk_180 1 45 (dk_at dksX4_most_1 8 rfl rfl)
theorem dX4_most_35 : decode cX4_most 35 = .ok (.iaload, 1) := dk_46 (dk_at dksX4_most_1 11 rfl rfl)
theorem dX4_most_36 : decode cX4_most 36 = .ok (.if_icmp .ge 26, 3) := dk_162 0 26 (dk_at dksX4_most_1 12 rfl rfl)
theorem dX4_most_39 : decode cX4_most 39 = .ok (.aload_n 0, 1) := dk_42 (dk_at dksX4_most_1 15 rfl rfl)
theorem dX4_most_40 : decode cX4_most 40 = .ok (.iload_n 1, 1) := dk_27 (dk_at dksX4_most_1 16 rfl rfl)
theorem dX4_most_41 : decode cX4_most 41 = .ok (.iload_n 3, 1) := dk_29 (dk_at dksX4_most_1 17 rfl rfl)
theorem dX4_most_42 : decode cX4_most 42 = .ok (.invokevirtual 439, 3) := dk_182 1 183 (dk_at dksX4_most_1 18 rfl rfl)
theorem dX4_most_45 : decode cX4_most 45 = .ok (.aload_n 0, 1) := dk_42 (dk_at dksX4_most_1 21 rfl rfl)
theorem dX4_most_46 : decode cX4_most 46 = .ok (.iload_n 1, 1) := dk_27 (dk_at dksX4_most_1 22 rfl rfl)
theorem dX4_most_47 : decode cX4_most 47 = .ok (.iload_n 2, 1) := dk_28 (dk_at dksX4_most_1 23 rfl rfl)
theorem dX4_most_48 : decode cX4_most 48 = .ok (.invokevirtual 439, 3) := dk_182 1 183 (dk_at dksX4_most_2 0 rfl rfl)
theorem dX4_most_51 : decode cX4_most 51 = .ok (.if_icmp .le 5, 3) := dk_164 0 5 (dk_at dksX4_most_2 3 rfl rfl)
theorem dX4_most_54 : decode cX4_most 54 = .ok (.iload_n 3, 1) := dk_29 (dk_at dksX4_most_2 6 rfl rfl)
theorem dX4_most_55 : decode cX4_most 55 = .ok (.istore_n 2, 1) := dk_61 (dk_at dksX4_most_2 7 rfl rfl)
theorem dX4_most_56 : decode cX4_most 56 = .ok (.iinc 3 1, 3) := dk_132 3 1 (dk_at dksX4_most_2 8 rfl rfl)
theorem dX4_most_59 : decode cX4_most 59 = .ok (.goto (-33), 3) := dk_167 255 223 (dk_at dksX4_most_2 11 rfl rfl)
theorem dX4_most_62 : decode cX4_most 62 = .ok (.iload_n 2, 1) := dk_28 (dk_at dksX4_most_2 14 rfl rfl)
theorem dX4_most_63 : decode cX4_most 63 = .ok (.ireturn, 1) := dk_172 (dk_at dksX4_most_2 15 rfl rfl)
abbrev cX4_gain : ByteArray := prog_22_method_106_code
def yX4_gain : MethodName := ⟨RX4, "gain", "(I)I"⟩
def dkwX4_gain_4 : List UInt8 := [167, 0, 7, 42, 180, 2, 31, 172]
abbrev dktX4_gain_4 : List UInt8 := dkwX4_gain_4 ++ []
def dkwX4_gain_3 : List UInt8 := [27, 154, 0, 12, 42, 180, 2, 28, 28, 108, 167, 0, 21, 27, 4, 160, 0, 12, 42, 180, 2, 25, 28, 108]
abbrev dktX4_gain_3 : List UInt8 := dkwX4_gain_3 ++ dktX4_gain_4
def dkwX4_gain_2 : List UInt8 := [182, 2, 34, 42, 180, 2, 25, 154, 0, 5, 2, 172, 42, 180, 2, 28, 42, 180, 2, 25, 184, 2, 37, 61]
abbrev dktX4_gain_2 : List UInt8 := dkwX4_gain_2 ++ dktX4_gain_3
def dkwX4_gain_1 : List UInt8 := [3, 5, 2, 182, 2, 34, 42, 4, 5, 2, 182, 2, 34, 42, 3, 4, 5, 182, 2, 34, 42, 3, 5, 4]
abbrev dktX4_gain_1 : List UInt8 := dkwX4_gain_1 ++ dktX4_gain_2
def dkwX4_gain_0 : List UInt8 := [27, 3, 5, 184, 1, 145, 154, 0, 5, 2, 172, 42, 3, 181, 2, 25, 42, 3, 4, 2, 182, 2, 34, 42]
abbrev dktX4_gain_0 : List UInt8 := dkwX4_gain_0 ++ dktX4_gain_1
theorem dksX4_gain_0 : cX4_gain.data.toList.drop 0 = dktX4_gain_0 := by decide +kernel
theorem dksX4_gain_1 : cX4_gain.data.toList.drop 24 = dktX4_gain_1 := dk_seg dksX4_gain_0 24 rfl rfl
theorem dksX4_gain_2 : cX4_gain.data.toList.drop 48 = dktX4_gain_2 := dk_seg dksX4_gain_1 24 rfl rfl
theorem dksX4_gain_3 : cX4_gain.data.toList.drop 72 = dktX4_gain_3 := dk_seg dksX4_gain_2 24 rfl rfl
theorem dksX4_gain_4 : cX4_gain.data.toList.drop 96 = dktX4_gain_4 := dk_seg dksX4_gain_3 24 rfl rfl
theorem dX4_gain_0 : decode cX4_gain 0 = .ok (.iload_n 1, 1) := dk_27 (dk_at dksX4_gain_0 0 rfl rfl)
theorem dX4_gain_1 : decode cX4_gain 1 = .ok (.iconst 0, 1) := dk_3 (dk_at dksX4_gain_0 1 rfl rfl)
theorem dX4_gain_2 : decode cX4_gain 2 = .ok (.iconst 2, 1) := dk_5 (dk_at dksX4_gain_0 2 rfl rfl)
theorem dX4_gain_3 : decode cX4_gain 3 = .ok (.invokestatic 401, 3) := dk_184 1 145 (dk_at dksX4_gain_0 3 rfl rfl)
theorem dX4_gain_6 : decode cX4_gain 6 = .ok (.ifCond .ne 5, 3) := dk_154 0 5 (dk_at dksX4_gain_0 6 rfl rfl)
theorem dX4_gain_9 : decode cX4_gain 9 = .ok (.iconst (-1), 1) := dk_2 (dk_at dksX4_gain_0 9 rfl rfl)
theorem dX4_gain_10 : decode cX4_gain 10 = .ok (.ireturn, 1) := dk_172 (dk_at dksX4_gain_0 10 rfl rfl)
theorem dX4_gain_11 : decode cX4_gain 11 = .ok (.aload_n 0, 1) := dk_42 (dk_at dksX4_gain_0 11 rfl rfl)
theorem dX4_gain_12 : decode cX4_gain 12 = .ok (.iconst 0, 1) := dk_3 (dk_at dksX4_gain_0 12 rfl rfl)
theorem dX4_gain_13 : decode cX4_gain 13 = .ok (.putfield 537, 3) := dk_181 2 25 (dk_at dksX4_gain_0 13 rfl rfl)
theorem dX4_gain_16 : decode cX4_gain 16 = .ok (.aload_n 0, 1) := dk_42 (dk_at dksX4_gain_0 16 rfl rfl)
theorem dX4_gain_17 : decode cX4_gain 17 = .ok (.iconst 0, 1) := dk_3 (dk_at dksX4_gain_0 17 rfl rfl)
theorem dX4_gain_18 : decode cX4_gain 18 = .ok (.iconst 1, 1) := dk_4 (dk_at dksX4_gain_0 18 rfl rfl)
theorem dX4_gain_19 : decode cX4_gain 19 = .ok (.iconst (-1), 1) := dk_2 (dk_at dksX4_gain_0 19 rfl rfl)
theorem dX4_gain_20 : decode cX4_gain 20 = .ok (.invokevirtual 546, 3) := dk_182 2 34 (dk_at dksX4_gain_0 20 rfl rfl)
theorem dX4_gain_23 : decode cX4_gain 23 = .ok (.aload_n 0, 1) := dk_42 (dk_at dksX4_gain_0 23 rfl rfl)
theorem dX4_gain_24 : decode cX4_gain 24 = .ok (.iconst 0, 1) := dk_3 (dk_at dksX4_gain_1 0 rfl rfl)
theorem dX4_gain_25 : decode cX4_gain 25 = .ok (.iconst 2, 1) := dk_5 (dk_at dksX4_gain_1 1 rfl rfl)
theorem dX4_gain_26 : decode cX4_gain 26 = .ok (.iconst (-1), 1) := dk_2 (dk_at dksX4_gain_1 2 rfl rfl)
theorem dX4_gain_27 : decode cX4_gain 27 = .ok (.invokevirtual 546, 3) := dk_182 2 34 (dk_at dksX4_gain_1 3 rfl rfl)
theorem dX4_gain_30 : decode cX4_gain 30 = .ok (.aload_n 0, 1) := dk_42 (dk_at dksX4_gain_1 6 rfl rfl)
theorem dX4_gain_31 : decode cX4_gain 31 = .ok (.iconst 1, 1) := dk_4 (dk_at dksX4_gain_1 7 rfl rfl)
theorem dX4_gain_32 : decode cX4_gain 32 = .ok (.iconst 2, 1) := dk_5 (dk_at dksX4_gain_1 8 rfl rfl)
theorem dX4_gain_33 : decode cX4_gain 33 = .ok (.iconst (-1), 1) := dk_2 (dk_at dksX4_gain_1 9 rfl rfl)
theorem dX4_gain_34 : decode cX4_gain 34 = .ok (.invokevirtual 546, 3) := dk_182 2 34 (dk_at dksX4_gain_1 10 rfl rfl)
theorem dX4_gain_37 : decode cX4_gain 37 = .ok (.aload_n 0, 1) := dk_42 (dk_at dksX4_gain_1 13 rfl rfl)
theorem dX4_gain_38 : decode cX4_gain 38 = .ok (.iconst 0, 1) := dk_3 (dk_at dksX4_gain_1 14 rfl rfl)
theorem dX4_gain_39 : decode cX4_gain 39 = .ok (.iconst 1, 1) := dk_4 (dk_at dksX4_gain_1 15 rfl rfl)
theorem dX4_gain_40 : decode cX4_gain 40 = .ok (.iconst 2, 1) := dk_5 (dk_at dksX4_gain_1 16 rfl rfl)
theorem dX4_gain_41 : decode cX4_gain 41 = .ok (.invokevirtual 546, 3) := dk_182 2 34 (dk_at dksX4_gain_1 17 rfl rfl)
theorem dX4_gain_44 : decode cX4_gain 44 = .ok (.aload_n 0, 1) := dk_42 (dk_at dksX4_gain_1 20 rfl rfl)
theorem dX4_gain_45 : decode cX4_gain 45 = .ok (.iconst 0, 1) := dk_3 (dk_at dksX4_gain_1 21 rfl rfl)
theorem dX4_gain_46 : decode cX4_gain 46 = .ok (.iconst 2, 1) := dk_5 (dk_at dksX4_gain_1 22 rfl rfl)
theorem dX4_gain_47 : decode cX4_gain 47 = .ok (.iconst 1, 1) := dk_4 (dk_at dksX4_gain_1 23 rfl rfl)
theorem dX4_gain_48 : decode cX4_gain 48 = .ok (.invokevirtual 546, 3) := dk_182 2 34 (dk_at dksX4_gain_2 0 rfl rfl)
theorem dX4_gain_51 : decode cX4_gain 51 = .ok (.aload_n 0, 1) := dk_42 (dk_at dksX4_gain_2 3 rfl rfl)
theorem dX4_gain_52 : decode cX4_gain 52 = .ok (.getfield 537, 3) := dk_180 2 25 (dk_at dksX4_gain_2 4 rfl rfl)
theorem dX4_gain_55 : decode cX4_gain 55 = .ok (.ifCond .ne 5, 3) := dk_154 0 5 (dk_at dksX4_gain_2 7 rfl rfl)
theorem dX4_gain_58 : decode cX4_gain 58 = .ok (.iconst (-1), 1) := dk_2 (dk_at dksX4_gain_2 10 rfl rfl)
theorem dX4_gain_59 : decode cX4_gain 59 = .ok (.ireturn, 1) := dk_172 (dk_at dksX4_gain_2 11 rfl rfl)
theorem dX4_gain_60 : decode cX4_gain 60 = .ok (.aload_n 0, 1) := dk_42 (dk_at dksX4_gain_2 12 rfl rfl)
theorem dX4_gain_61 : decode cX4_gain 61 = .ok (.getfield 540, 3) := dk_180 2 28 (dk_at dksX4_gain_2 13 rfl rfl)
theorem dX4_gain_64 : decode cX4_gain 64 = .ok (.aload_n 0, 1) := dk_42 (dk_at dksX4_gain_2 16 rfl rfl)
theorem dX4_gain_65 : decode cX4_gain 65 = .ok (.getfield 537, 3) := dk_180 2 25 (dk_at dksX4_gain_2 17 rfl rfl)
theorem dX4_gain_68 : decode cX4_gain 68 = .ok (.invokestatic 549, 3) := dk_184 2 37 (dk_at dksX4_gain_2 20 rfl rfl)
theorem dX4_gain_71 : decode cX4_gain 71 = .ok (.istore_n 2, 1) := dk_61 (dk_at dksX4_gain_2 23 rfl rfl)
theorem dX4_gain_72 : decode cX4_gain 72 = .ok (.iload_n 1, 1) := dk_27 (dk_at dksX4_gain_3 0 rfl rfl)
theorem dX4_gain_73 : decode cX4_gain 73 = .ok (.ifCond .ne 12, 3) := dk_154 0 12 (dk_at dksX4_gain_3 1 rfl rfl)
theorem dX4_gain_76 : decode cX4_gain 76 = .ok (.aload_n 0, 1) := dk_42 (dk_at dksX4_gain_3 4 rfl rfl)
theorem dX4_gain_77 : decode cX4_gain 77 = .ok (.getfield 540, 3) := dk_180 2 28 (dk_at dksX4_gain_3 5 rfl rfl)
theorem dX4_gain_80 : decode cX4_gain 80 = .ok (.iload_n 2, 1) := dk_28 (dk_at dksX4_gain_3 8 rfl rfl)
theorem dX4_gain_81 : decode cX4_gain 81 = .ok (.idiv, 1) := dk_108 (dk_at dksX4_gain_3 9 rfl rfl)
theorem dX4_gain_82 : decode cX4_gain 82 = .ok (.goto 21, 3) := dk_167 0 21 (dk_at dksX4_gain_3 10 rfl rfl)
theorem dX4_gain_85 : decode cX4_gain 85 = .ok (.iload_n 1, 1) := dk_27 (dk_at dksX4_gain_3 13 rfl rfl)
theorem dX4_gain_86 : decode cX4_gain 86 = .ok (.iconst 1, 1) := dk_4 (dk_at dksX4_gain_3 14 rfl rfl)
theorem dX4_gain_87 : decode cX4_gain 87 = .ok (.if_icmp .ne 12, 3) := dk_160 0 12 (dk_at dksX4_gain_3 15 rfl rfl)
theorem dX4_gain_90 : decode cX4_gain 90 = .ok (.aload_n 0, 1) := dk_42 (dk_at dksX4_gain_3 18 rfl rfl)
theorem dX4_gain_91 : decode cX4_gain 91 = .ok (.getfield 537, 3) := dk_180 2 25 (dk_at dksX4_gain_3 19 rfl rfl)
theorem dX4_gain_94 : decode cX4_gain 94 = .ok (.iload_n 2, 1) := dk_28 (dk_at dksX4_gain_3 22 rfl rfl)
theorem dX4_gain_95 : decode cX4_gain 95 = .ok (.idiv, 1) := dk_108 (dk_at dksX4_gain_3 23 rfl rfl)
theorem dX4_gain_96 : decode cX4_gain 96 = .ok (.goto 7, 3) := dk_167 0 7 (dk_at dksX4_gain_4 0 rfl rfl)
theorem dX4_gain_99 : decode cX4_gain 99 = .ok (.aload_n 0, 1) := dk_42 (dk_at dksX4_gain_4 3 rfl rfl)
theorem dX4_gain_100 : decode cX4_gain 100 = .ok (.getfield 543, 3) := dk_180 2 31 (dk_at dksX4_gain_4 4 rfl rfl)
theorem dX4_gain_103 : decode cX4_gain 103 = .ok (.ireturn, 1) := dk_172 (dk_at dksX4_gain_4 7 rfl rfl)
abbrev cX4_tryRound : ByteArray := prog_22_method_105_code
def yX4_tryRound : MethodName := ⟨RX4, "tryRound", "(III)V"⟩
def dkwX4_tryRound_9 : List UInt8 := [167, 0, 14, 16, 100, 27, 104, 16, 10, 28, 104, 96, 29, 96, 181, 2, 31, 177]
abbrev dktX4_tryRound_9 : List UInt8 := dkwX4_tryRound_9 ++ []
def dkwX4_tryRound_8 : List UInt8 := [42, 21, 7, 181, 2, 28, 42, 21, 8, 181, 2, 25, 42, 29, 156, 0, 12, 16, 10, 27, 104, 28, 96]
abbrev dktX4_tryRound_8 : List UInt8 := dkwX4_tryRound_8 ++ dktX4_tryRound_9
def dkwX4_tryRound_7 : List UInt8 := [180, 2, 25, 158, 0, 21, 21, 7, 42, 180, 2, 25, 104, 42, 180, 2, 28, 21, 8, 104, 163, 0, 4, 177]
abbrev dktX4_tryRound_7 : List UInt8 := dkwX4_tryRound_7 ++ dktX4_tryRound_8
def dkwX4_tryRound_6 : List UInt8 := [21, 5, 46, 104, 21, 6, 156, 0, 7, 4, 167, 0, 10, 42, 180, 0, 66, 21, 6, 46, 104, 54, 8, 42]
abbrev dktX4_tryRound_6 : List UInt8 := dkwX4_tryRound_6 ++ dktX4_tryRound_7
def dkwX4_tryRound_5 : List UInt8 := [167, 0, 10, 42, 180, 0, 69, 21, 6, 46, 104, 54, 7, 42, 180, 0, 66, 21, 4, 46, 42, 180, 0, 66]
abbrev dktX4_tryRound_5 : List UInt8 := dkwX4_tryRound_5 ++ dktX4_tryRound_6
def dkwX4_tryRound_4 : List UInt8 := [177, 42, 180, 0, 69, 21, 4, 46, 42, 180, 0, 69, 21, 5, 46, 104, 21, 6, 156, 0, 7, 4]
abbrev dktX4_tryRound_4 : List UInt8 := dkwX4_tryRound_4 ++ dktX4_tryRound_5
def dkwX4_tryRound_3 : List UInt8 := [180, 0, 66, 21, 5, 46, 153, 0, 18, 21, 6, 155, 0, 14, 42, 180, 0, 66, 21, 6, 46, 154, 0, 4]
abbrev dktX4_tryRound_3 : List UInt8 := dkwX4_tryRound_3 ++ dktX4_tryRound_4
def dkwX4_tryRound_2 : List UInt8 := [42, 180, 1, 45, 104, 6, 29, 104, 96, 27, 96, 54, 6, 42, 180, 0, 66, 21, 4, 46, 153, 0, 28, 42]
abbrev dktX4_tryRound_2 : List UInt8 := dkwX4_tryRound_2 ++ dktX4_tryRound_3
def dkwX4_tryRound_1 : List UInt8 := [104, 96, 29, 156, 0, 7, 27, 167, 0, 4, 29, 96, 54, 5, 29, 156, 0, 7, 2, 167, 0, 16, 16, 9]
abbrev dktX4_tryRound_1 : List UInt8 := dkwX4_tryRound_1 ++ dktX4_tryRound_2
def dkwX4_tryRound_0 : List UInt8 := [16, 9, 42, 180, 1, 45, 104, 6, 27, 104, 96, 28, 96, 54, 4, 16, 9, 42, 180, 1, 45, 104, 6, 28]
abbrev dktX4_tryRound_0 : List UInt8 := dkwX4_tryRound_0 ++ dktX4_tryRound_1
theorem dksX4_tryRound_0 : cX4_tryRound.data.toList.drop 0 = dktX4_tryRound_0 := by decide +kernel
theorem dksX4_tryRound_1 : cX4_tryRound.data.toList.drop 24 = dktX4_tryRound_1 := dk_seg dksX4_tryRound_0 24 rfl rfl
theorem dksX4_tryRound_2 : cX4_tryRound.data.toList.drop 48 = dktX4_tryRound_2 := dk_seg dksX4_tryRound_1 24 rfl rfl
theorem dksX4_tryRound_3 : cX4_tryRound.data.toList.drop 72 = dktX4_tryRound_3 := dk_seg dksX4_tryRound_2 24 rfl rfl
theorem dksX4_tryRound_4 : cX4_tryRound.data.toList.drop 96 = dktX4_tryRound_4 := dk_seg dksX4_tryRound_3 24 rfl rfl
theorem dksX4_tryRound_5 : cX4_tryRound.data.toList.drop 118 = dktX4_tryRound_5 := dk_seg dksX4_tryRound_4 22 rfl rfl
theorem dksX4_tryRound_6 : cX4_tryRound.data.toList.drop 142 = dktX4_tryRound_6 := dk_seg dksX4_tryRound_5 24 rfl rfl
theorem dksX4_tryRound_7 : cX4_tryRound.data.toList.drop 166 = dktX4_tryRound_7 := dk_seg dksX4_tryRound_6 24 rfl rfl
theorem dksX4_tryRound_8 : cX4_tryRound.data.toList.drop 190 = dktX4_tryRound_8 := dk_seg dksX4_tryRound_7 24 rfl rfl
theorem dksX4_tryRound_9 : cX4_tryRound.data.toList.drop 213 = dktX4_tryRound_9 := dk_seg dksX4_tryRound_8 23 rfl rfl
theorem dX4_tryRound_0 : decode cX4_tryRound 0 = .ok (.bipush 9, 2) := dk_16 9 (dk_at dksX4_tryRound_0 0 rfl rfl)
theorem dX4_tryRound_2 : decode cX4_tryRound 2 = .ok (.aload_n 0, 1) := dk_42 (dk_at dksX4_tryRound_0 2 rfl rfl)
theorem dX4_tryRound_3 : decode cX4_tryRound 3 = .ok (.getfield 301, 3) := dk_180 1 45 (dk_at dksX4_tryRound_0 3 rfl rfl)
theorem dX4_tryRound_6 : decode cX4_tryRound 6 = .ok (.imul, 1) := dk_104 (dk_at dksX4_tryRound_0 6 rfl rfl)
theorem dX4_tryRound_7 : decode cX4_tryRound 7 = .ok (.iconst 3, 1) := dk_6 (dk_at dksX4_tryRound_0 7 rfl rfl)
theorem dX4_tryRound_8 : decode cX4_tryRound 8 = .ok (.iload_n 1, 1) := dk_27 (dk_at dksX4_tryRound_0 8 rfl rfl)
theorem dX4_tryRound_9 : decode cX4_tryRound 9 = .ok (.imul, 1) := dk_104 (dk_at dksX4_tryRound_0 9 rfl rfl)
theorem dX4_tryRound_10 : decode cX4_tryRound 10 = .ok (.iadd, 1) := dk_96 (dk_at dksX4_tryRound_0 10 rfl rfl)
theorem dX4_tryRound_11 : decode cX4_tryRound 11 = .ok (.iload_n 2, 1) := dk_28 (dk_at dksX4_tryRound_0 11 rfl rfl)
theorem dX4_tryRound_12 : decode cX4_tryRound 12 = .ok (.iadd, 1) := dk_96 (dk_at dksX4_tryRound_0 12 rfl rfl)
theorem dX4_tryRound_13 : decode cX4_tryRound 13 = .ok (.istore 4, 2) := dk_54 4 (dk_at dksX4_tryRound_0 13 rfl rfl)
theorem dX4_tryRound_15 : decode cX4_tryRound 15 = .ok (.bipush 9, 2) := dk_16 9 (dk_at dksX4_tryRound_0 15 rfl rfl)
theorem dX4_tryRound_17 : decode cX4_tryRound 17 = .ok (.aload_n 0, 1) := dk_42 (dk_at dksX4_tryRound_0 17 rfl rfl)
theorem dX4_tryRound_18 : decode cX4_tryRound 18 = .ok (.getfield 301, 3) := dk_180 1 45 (dk_at dksX4_tryRound_0 18 rfl rfl)
theorem dX4_tryRound_21 : decode cX4_tryRound 21 = .ok (.imul, 1) := dk_104 (dk_at dksX4_tryRound_0 21 rfl rfl)
theorem dX4_tryRound_22 : decode cX4_tryRound 22 = .ok (.iconst 3, 1) := dk_6 (dk_at dksX4_tryRound_0 22 rfl rfl)
theorem dX4_tryRound_23 : decode cX4_tryRound 23 = .ok (.iload_n 2, 1) := dk_28 (dk_at dksX4_tryRound_0 23 rfl rfl)
theorem dX4_tryRound_24 : decode cX4_tryRound 24 = .ok (.imul, 1) := dk_104 (dk_at dksX4_tryRound_1 0 rfl rfl)
theorem dX4_tryRound_25 : decode cX4_tryRound 25 = .ok (.iadd, 1) := dk_96 (dk_at dksX4_tryRound_1 1 rfl rfl)
theorem dX4_tryRound_26 : decode cX4_tryRound 26 = .ok (.iload_n 3, 1) := dk_29 (dk_at dksX4_tryRound_1 2 rfl rfl)
theorem dX4_tryRound_27 : decode cX4_tryRound 27 = .ok (.ifCond .ge 7, 3) := dk_156 0 7 (dk_at dksX4_tryRound_1 3 rfl rfl)
theorem dX4_tryRound_30 : decode cX4_tryRound 30 = .ok (.iload_n 1, 1) := dk_27 (dk_at dksX4_tryRound_1 6 rfl rfl)
theorem dX4_tryRound_31 : decode cX4_tryRound 31 = .ok (.goto 4, 3) := dk_167 0 4 (dk_at dksX4_tryRound_1 7 rfl rfl)
theorem dX4_tryRound_34 : decode cX4_tryRound 34 = .ok (.iload_n 3, 1) := dk_29 (dk_at dksX4_tryRound_1 10 rfl rfl)
theorem dX4_tryRound_35 : decode cX4_tryRound 35 = .ok (.iadd, 1) := dk_96 (dk_at dksX4_tryRound_1 11 rfl rfl)
theorem dX4_tryRound_36 : decode cX4_tryRound 36 = .ok (.istore 5, 2) := dk_54 5 (dk_at dksX4_tryRound_1 12 rfl rfl)
theorem dX4_tryRound_38 : decode cX4_tryRound 38 = .ok (.iload_n 3, 1) := dk_29 (dk_at dksX4_tryRound_1 14 rfl rfl)
theorem dX4_tryRound_39 : decode cX4_tryRound 39 = .ok (.ifCond .ge 7, 3) := dk_156 0 7 (dk_at dksX4_tryRound_1 15 rfl rfl)
theorem dX4_tryRound_42 : decode cX4_tryRound 42 = .ok (.iconst (-1), 1) := dk_2 (dk_at dksX4_tryRound_1 18 rfl rfl)
theorem dX4_tryRound_43 : decode cX4_tryRound 43 = .ok (.goto 16, 3) := dk_167 0 16 (dk_at dksX4_tryRound_1 19 rfl rfl)
theorem dX4_tryRound_46 : decode cX4_tryRound 46 = .ok (.bipush 9, 2) := dk_16 9 (dk_at dksX4_tryRound_1 22 rfl rfl)
theorem dX4_tryRound_48 : decode cX4_tryRound 48 = .ok (.aload_n 0, 1) := dk_42 (dk_at dksX4_tryRound_2 0 rfl rfl)
theorem dX4_tryRound_49 : decode cX4_tryRound 49 = .ok (.getfield 301, 3) := dk_180 1 45 (dk_at dksX4_tryRound_2 1 rfl rfl)
theorem dX4_tryRound_52 : decode cX4_tryRound 52 = .ok (.imul, 1) := dk_104 (dk_at dksX4_tryRound_2 4 rfl rfl)
theorem dX4_tryRound_53 : decode cX4_tryRound 53 = .ok (.iconst 3, 1) := dk_6 (dk_at dksX4_tryRound_2 5 rfl rfl)
theorem dX4_tryRound_54 : decode cX4_tryRound 54 = .ok (.iload_n 3, 1) := dk_29 (dk_at dksX4_tryRound_2 6 rfl rfl)
theorem dX4_tryRound_55 : decode cX4_tryRound 55 = .ok (.imul, 1) := dk_104 (dk_at dksX4_tryRound_2 7 rfl rfl)
theorem dX4_tryRound_56 : decode cX4_tryRound 56 = .ok (.iadd, 1) := dk_96 (dk_at dksX4_tryRound_2 8 rfl rfl)
theorem dX4_tryRound_57 : decode cX4_tryRound 57 = .ok (.iload_n 1, 1) := dk_27 (dk_at dksX4_tryRound_2 9 rfl rfl)
theorem dX4_tryRound_58 : decode cX4_tryRound 58 = .ok (.iadd, 1) := dk_96 (dk_at dksX4_tryRound_2 10 rfl rfl)
theorem dX4_tryRound_59 : decode cX4_tryRound 59 = .ok (.istore 6, 2) := dk_54 6 (dk_at dksX4_tryRound_2 11 rfl rfl)
theorem dX4_tryRound_61 : decode cX4_tryRound 61 = .ok (.aload_n 0, 1) := dk_42 (dk_at dksX4_tryRound_2 13 rfl rfl)
theorem dX4_tryRound_62 : decode cX4_tryRound 62 = .ok (.getfield 66, 3) := dk_180 0 66 (dk_at dksX4_tryRound_2 14 rfl rfl)
theorem dX4_tryRound_65 : decode cX4_tryRound 65 = .ok (.iload 4, 2) := dk_21 4 (dk_at dksX4_tryRound_2 17 rfl rfl)
theorem dX4_tryRound_67 : decode cX4_tryRound 67 = .ok (.iaload, 1) := dk_46 (dk_at dksX4_tryRound_2 19 rfl rfl)
theorem dX4_tryRound_68 : decode cX4_tryRound 68 = .ok (.ifCond .eq 28, 3) := dk_153 0 28 (dk_at dksX4_tryRound_2 20 rfl rfl)
theorem dX4_tryRound_71 : decode cX4_tryRound 71 = .ok (.aload_n 0, 1) := dk_42 (dk_at dksX4_tryRound_2 23 rfl rfl)
theorem dX4_tryRound_72 : decode cX4_tryRound 72 = .ok (.getfield 66, 3) := dk_180 0 66 (dk_at dksX4_tryRound_3 0 rfl rfl)
theorem dX4_tryRound_75 : decode cX4_tryRound 75 = .ok (.iload 5, 2) := dk_21 5 (dk_at dksX4_tryRound_3 3 rfl rfl)
theorem dX4_tryRound_77 : decode cX4_tryRound 77 = .ok (.iaload, 1) := dk_46 (dk_at dksX4_tryRound_3 5 rfl rfl)
theorem dX4_tryRound_78 : decode cX4_tryRound 78 = .ok (.ifCond .eq 18, 3) := dk_153 0 18 (dk_at dksX4_tryRound_3 6 rfl rfl)
theorem dX4_tryRound_81 : decode cX4_tryRound 81 = .ok (.iload 6, 2) := dk_21 6 (dk_at dksX4_tryRound_3 9 rfl rfl)
theorem dX4_tryRound_83 : decode cX4_tryRound 83 = .ok (.ifCond .lt 14, 3) := dk_155 0 14 (dk_at dksX4_tryRound_3 11 rfl rfl)
theorem dX4_tryRound_86 : decode cX4_tryRound 86 = .ok (.aload_n 0, 1) := dk_42 (dk_at dksX4_tryRound_3 14 rfl rfl)
theorem dX4_tryRound_87 : decode cX4_tryRound 87 = .ok (.getfield 66, 3) := dk_180 0 66 (dk_at dksX4_tryRound_3 15 rfl rfl)
theorem dX4_tryRound_90 : decode cX4_tryRound 90 = .ok (.iload 6, 2) := dk_21 6 (dk_at dksX4_tryRound_3 18 rfl rfl)
theorem dX4_tryRound_92 : decode cX4_tryRound 92 = .ok (.iaload, 1) := dk_46 (dk_at dksX4_tryRound_3 20 rfl rfl)
theorem dX4_tryRound_93 : decode cX4_tryRound 93 = .ok (.ifCond .ne 4, 3) := dk_154 0 4 (dk_at dksX4_tryRound_3 21 rfl rfl)
theorem dX4_tryRound_96 : decode cX4_tryRound 96 = .ok (.return_, 1) := dk_177 (dk_at dksX4_tryRound_4 0 rfl rfl)
theorem dX4_tryRound_97 : decode cX4_tryRound 97 = .ok (.aload_n 0, 1) := dk_42 (dk_at dksX4_tryRound_4 1 rfl rfl)
theorem dX4_tryRound_98 : decode cX4_tryRound 98 = .ok (.getfield 69, 3) := dk_180 0 69 (dk_at dksX4_tryRound_4 2 rfl rfl)
theorem dX4_tryRound_101 : decode cX4_tryRound 101 = .ok (.iload 4, 2) := dk_21 4 (dk_at dksX4_tryRound_4 5 rfl rfl)
theorem dX4_tryRound_103 : decode cX4_tryRound 103 = .ok (.iaload, 1) := dk_46 (dk_at dksX4_tryRound_4 7 rfl rfl)
theorem dX4_tryRound_104 : decode cX4_tryRound 104 = .ok (.aload_n 0, 1) := dk_42 (dk_at dksX4_tryRound_4 8 rfl rfl)
theorem dX4_tryRound_105 : decode cX4_tryRound 105 = .ok (.getfield 69, 3) := dk_180 0 69 (dk_at dksX4_tryRound_4 9 rfl rfl)
theorem dX4_tryRound_108 : decode cX4_tryRound 108 = .ok (.iload 5, 2) := dk_21 5 (dk_at dksX4_tryRound_4 12 rfl rfl)
theorem dX4_tryRound_110 : decode cX4_tryRound 110 = .ok (.iaload, 1) := dk_46 (dk_at dksX4_tryRound_4 14 rfl rfl)
theorem dX4_tryRound_111 : decode cX4_tryRound 111 = .ok (.imul, 1) := dk_104 (dk_at dksX4_tryRound_4 15 rfl rfl)
theorem dX4_tryRound_112 : decode cX4_tryRound 112 = .ok (.iload 6, 2) := dk_21 6 (dk_at dksX4_tryRound_4 16 rfl rfl)
theorem dX4_tryRound_114 : decode cX4_tryRound 114 = .ok (.ifCond .ge 7, 3) := dk_156 0 7 (dk_at dksX4_tryRound_4 18 rfl rfl)
theorem dX4_tryRound_117 : decode cX4_tryRound 117 = .ok (.iconst 1, 1) := dk_4 (dk_at dksX4_tryRound_4 21 rfl rfl)
theorem dX4_tryRound_118 : decode cX4_tryRound 118 = .ok (.goto 10, 3) := dk_167 0 10 (dk_at dksX4_tryRound_5 0 rfl rfl)
theorem dX4_tryRound_121 : decode cX4_tryRound 121 = .ok (.aload_n 0, 1) := dk_42 (dk_at dksX4_tryRound_5 3 rfl rfl)
theorem dX4_tryRound_122 : decode cX4_tryRound 122 = .ok (.getfield 69, 3) := dk_180 0 69 (dk_at dksX4_tryRound_5 4 rfl rfl)
theorem dX4_tryRound_125 : decode cX4_tryRound 125 = .ok (.iload 6, 2) := dk_21 6 (dk_at dksX4_tryRound_5 7 rfl rfl)
theorem dX4_tryRound_127 : decode cX4_tryRound 127 = .ok (.iaload, 1) := dk_46 (dk_at dksX4_tryRound_5 9 rfl rfl)
theorem dX4_tryRound_128 : decode cX4_tryRound 128 = .ok (.imul, 1) := dk_104 (dk_at dksX4_tryRound_5 10 rfl rfl)
theorem dX4_tryRound_129 : decode cX4_tryRound 129 = .ok (.istore 7, 2) := dk_54 7 (dk_at dksX4_tryRound_5 11 rfl rfl)
theorem dX4_tryRound_131 : decode cX4_tryRound 131 = .ok (.aload_n 0, 1) := dk_42 (dk_at dksX4_tryRound_5 13 rfl rfl)
theorem dX4_tryRound_132 : decode cX4_tryRound 132 = .ok (.getfield 66, 3) := dk_180 0 66 (dk_at dksX4_tryRound_5 14 rfl rfl)
theorem dX4_tryRound_135 : decode cX4_tryRound 135 = .ok (.iload 4, 2) := dk_21 4 (dk_at dksX4_tryRound_5 17 rfl rfl)
theorem dX4_tryRound_137 : decode cX4_tryRound 137 = .ok (.iaload, 1) := dk_46 (dk_at dksX4_tryRound_5 19 rfl rfl)
theorem dX4_tryRound_138 : decode cX4_tryRound 138 = .ok (.aload_n 0, 1) := dk_42 (dk_at dksX4_tryRound_5 20 rfl rfl)
theorem dX4_tryRound_139 : decode cX4_tryRound 139 = .ok (.getfield 66, 3) := dk_180 0 66 (dk_at dksX4_tryRound_5 21 rfl rfl)
theorem dX4_tryRound_142 : decode cX4_tryRound 142 = .ok (.iload 5, 2) := dk_21 5 (dk_at dksX4_tryRound_6 0 rfl rfl)
theorem dX4_tryRound_144 : decode cX4_tryRound 144 = .ok (.iaload, 1) := dk_46 (dk_at dksX4_tryRound_6 2 rfl rfl)
theorem dX4_tryRound_145 : decode cX4_tryRound 145 = .ok (.imul, 1) := dk_104 (dk_at dksX4_tryRound_6 3 rfl rfl)
theorem dX4_tryRound_146 : decode cX4_tryRound 146 = .ok (.iload 6, 2) := dk_21 6 (dk_at dksX4_tryRound_6 4 rfl rfl)
theorem dX4_tryRound_148 : decode cX4_tryRound 148 = .ok (.ifCond .ge 7, 3) := dk_156 0 7 (dk_at dksX4_tryRound_6 6 rfl rfl)
theorem dX4_tryRound_151 : decode cX4_tryRound 151 = .ok (.iconst 1, 1) := dk_4 (dk_at dksX4_tryRound_6 9 rfl rfl)
theorem dX4_tryRound_152 : decode cX4_tryRound 152 = .ok (.goto 10, 3) := dk_167 0 10 (dk_at dksX4_tryRound_6 10 rfl rfl)
theorem dX4_tryRound_155 : decode cX4_tryRound 155 = .ok (.aload_n 0, 1) := dk_42 (dk_at dksX4_tryRound_6 13 rfl rfl)
theorem dX4_tryRound_156 : decode cX4_tryRound 156 = .ok (.getfield 66, 3) := dk_180 0 66 (dk_at dksX4_tryRound_6 14 rfl rfl)
theorem dX4_tryRound_159 : decode cX4_tryRound 159 = .ok (.iload 6, 2) := dk_21 6 (dk_at dksX4_tryRound_6 17 rfl rfl)
theorem dX4_tryRound_161 : decode cX4_tryRound 161 = .ok (.iaload, 1) := dk_46 (dk_at dksX4_tryRound_6 19 rfl rfl)
theorem dX4_tryRound_162 : decode cX4_tryRound 162 = .ok (.imul, 1) := dk_104 (dk_at dksX4_tryRound_6 20 rfl rfl)
theorem dX4_tryRound_163 : decode cX4_tryRound 163 = .ok (.istore 8, 2) := dk_54 8 (dk_at dksX4_tryRound_6 21 rfl rfl)
theorem dX4_tryRound_165 : decode cX4_tryRound 165 = .ok (.aload_n 0, 1) := dk_42 (dk_at dksX4_tryRound_6 23 rfl rfl)
theorem dX4_tryRound_166 : decode cX4_tryRound 166 = .ok (.getfield 537, 3) := dk_180 2 25 (dk_at dksX4_tryRound_7 0 rfl rfl)
theorem dX4_tryRound_169 : decode cX4_tryRound 169 = .ok (.ifCond .le 21, 3) := dk_158 0 21 (dk_at dksX4_tryRound_7 3 rfl rfl)
theorem dX4_tryRound_172 : decode cX4_tryRound 172 = .ok (.iload 7, 2) := dk_21 7 (dk_at dksX4_tryRound_7 6 rfl rfl)
theorem dX4_tryRound_174 : decode cX4_tryRound 174 = .ok (.aload_n 0, 1) := dk_42 (dk_at dksX4_tryRound_7 8 rfl rfl)
theorem dX4_tryRound_175 : decode cX4_tryRound 175 = .ok (.getfield 537, 3) := dk_180 2 25 (dk_at dksX4_tryRound_7 9 rfl rfl)
theorem dX4_tryRound_178 : decode cX4_tryRound 178 = .ok (.imul, 1) := dk_104 (dk_at dksX4_tryRound_7 12 rfl rfl)
theorem dX4_tryRound_179 : decode cX4_tryRound 179 = .ok (.aload_n 0, 1) := dk_42 (dk_at dksX4_tryRound_7 13 rfl rfl)
theorem dX4_tryRound_180 : decode cX4_tryRound 180 = .ok (.getfield 540, 3) := dk_180 2 28 (dk_at dksX4_tryRound_7 14 rfl rfl)
theorem dX4_tryRound_183 : decode cX4_tryRound 183 = .ok (.iload 8, 2) := dk_21 8 (dk_at dksX4_tryRound_7 17 rfl rfl)
theorem dX4_tryRound_185 : decode cX4_tryRound 185 = .ok (.imul, 1) := dk_104 (dk_at dksX4_tryRound_7 19 rfl rfl)
theorem dX4_tryRound_186 : decode cX4_tryRound 186 = .ok (.if_icmp .gt 4, 3) := dk_163 0 4 (dk_at dksX4_tryRound_7 20 rfl rfl)
theorem dX4_tryRound_189 : decode cX4_tryRound 189 = .ok (.return_, 1) := dk_177 (dk_at dksX4_tryRound_7 23 rfl rfl)
theorem dX4_tryRound_190 : decode cX4_tryRound 190 = .ok (.aload_n 0, 1) := dk_42 (dk_at dksX4_tryRound_8 0 rfl rfl)
theorem dX4_tryRound_191 : decode cX4_tryRound 191 = .ok (.iload 7, 2) := dk_21 7 (dk_at dksX4_tryRound_8 1 rfl rfl)
theorem dX4_tryRound_193 : decode cX4_tryRound 193 = .ok (.putfield 540, 3) := dk_181 2 28 (dk_at dksX4_tryRound_8 3 rfl rfl)
theorem dX4_tryRound_196 : decode cX4_tryRound 196 = .ok (.aload_n 0, 1) := dk_42 (dk_at dksX4_tryRound_8 6 rfl rfl)
theorem dX4_tryRound_197 : decode cX4_tryRound 197 = .ok (.iload 8, 2) := dk_21 8 (dk_at dksX4_tryRound_8 7 rfl rfl)
theorem dX4_tryRound_199 : decode cX4_tryRound 199 = .ok (.putfield 537, 3) := dk_181 2 25 (dk_at dksX4_tryRound_8 9 rfl rfl)
theorem dX4_tryRound_202 : decode cX4_tryRound 202 = .ok (.aload_n 0, 1) := dk_42 (dk_at dksX4_tryRound_8 12 rfl rfl)
theorem dX4_tryRound_203 : decode cX4_tryRound 203 = .ok (.iload_n 3, 1) := dk_29 (dk_at dksX4_tryRound_8 13 rfl rfl)
theorem dX4_tryRound_204 : decode cX4_tryRound 204 = .ok (.ifCond .ge 12, 3) := dk_156 0 12 (dk_at dksX4_tryRound_8 14 rfl rfl)
theorem dX4_tryRound_207 : decode cX4_tryRound 207 = .ok (.bipush 10, 2) := dk_16 10 (dk_at dksX4_tryRound_8 17 rfl rfl)
theorem dX4_tryRound_209 : decode cX4_tryRound 209 = .ok (.iload_n 1, 1) := dk_27 (dk_at dksX4_tryRound_8 19 rfl rfl)
theorem dX4_tryRound_210 : decode cX4_tryRound 210 = .ok (.imul, 1) := dk_104 (dk_at dksX4_tryRound_8 20 rfl rfl)
theorem dX4_tryRound_211 : decode cX4_tryRound 211 = .ok (.iload_n 2, 1) := dk_28 (dk_at dksX4_tryRound_8 21 rfl rfl)
theorem dX4_tryRound_212 : decode cX4_tryRound 212 = .ok (.iadd, 1) := dk_96 (dk_at dksX4_tryRound_8 22 rfl rfl)
theorem dX4_tryRound_213 : decode cX4_tryRound 213 = .ok (.goto 14, 3) := dk_167 0 14 (dk_at dksX4_tryRound_9 0 rfl rfl)
theorem dX4_tryRound_216 : decode cX4_tryRound 216 = .ok (.bipush 100, 2) := dk_16 100 (dk_at dksX4_tryRound_9 3 rfl rfl)
theorem dX4_tryRound_218 : decode cX4_tryRound 218 = .ok (.iload_n 1, 1) := dk_27 (dk_at dksX4_tryRound_9 5 rfl rfl)
theorem dX4_tryRound_219 : decode cX4_tryRound 219 = .ok (.imul, 1) := dk_104 (dk_at dksX4_tryRound_9 6 rfl rfl)
theorem dX4_tryRound_220 : decode cX4_tryRound 220 = .ok (.bipush 10, 2) := dk_16 10 (dk_at dksX4_tryRound_9 7 rfl rfl)
theorem dX4_tryRound_222 : decode cX4_tryRound 222 = .ok (.iload_n 2, 1) := dk_28 (dk_at dksX4_tryRound_9 9 rfl rfl)
theorem dX4_tryRound_223 : decode cX4_tryRound 223 = .ok (.imul, 1) := dk_104 (dk_at dksX4_tryRound_9 10 rfl rfl)
theorem dX4_tryRound_224 : decode cX4_tryRound 224 = .ok (.iadd, 1) := dk_96 (dk_at dksX4_tryRound_9 11 rfl rfl)
theorem dX4_tryRound_225 : decode cX4_tryRound 225 = .ok (.iload_n 3, 1) := dk_29 (dk_at dksX4_tryRound_9 12 rfl rfl)
theorem dX4_tryRound_226 : decode cX4_tryRound 226 = .ok (.iadd, 1) := dk_96 (dk_at dksX4_tryRound_9 13 rfl rfl)
theorem dX4_tryRound_227 : decode cX4_tryRound 227 = .ok (.putfield 543, 3) := dk_181 2 31 (dk_at dksX4_tryRound_9 14 rfl rfl)
theorem dX4_tryRound_230 : decode cX4_tryRound 230 = .ok (.return_, 1) := dk_177 (dk_at dksX4_tryRound_9 17 rfl rfl)
abbrev cX4_divisor : ByteArray := prog_22_method_46_code
def yX4_divisor : MethodName := ⟨RX4, "divisor", "(II)I"⟩
def dkwX4_divisor_0 : List UInt8 := [26, 61, 27, 62, 29, 158, 0, 16, 28, 29, 112, 54, 4, 29, 61, 21, 4, 62, 167, 255, 242, 28, 172]
abbrev dktX4_divisor_0 : List UInt8 := dkwX4_divisor_0 ++ []
theorem dksX4_divisor_0 : cX4_divisor.data.toList.drop 0 = dktX4_divisor_0 := by decide +kernel
theorem dX4_divisor_0 : decode cX4_divisor 0 = .ok (.iload_n 0, 1) := dk_26 (dk_at dksX4_divisor_0 0 rfl rfl)
theorem dX4_divisor_1 : decode cX4_divisor 1 = .ok (.istore_n 2, 1) := dk_61 (dk_at dksX4_divisor_0 1 rfl rfl)
theorem dX4_divisor_2 : decode cX4_divisor 2 = .ok (.iload_n 1, 1) := dk_27 (dk_at dksX4_divisor_0 2 rfl rfl)
theorem dX4_divisor_3 : decode cX4_divisor 3 = .ok (.istore_n 3, 1) := dk_62 (dk_at dksX4_divisor_0 3 rfl rfl)
theorem dX4_divisor_4 : decode cX4_divisor 4 = .ok (.iload_n 3, 1) := dk_29 (dk_at dksX4_divisor_0 4 rfl rfl)
theorem dX4_divisor_5 : decode cX4_divisor 5 = .ok (.ifCond .le 16, 3) := dk_158 0 16 (dk_at dksX4_divisor_0 5 rfl rfl)
theorem dX4_divisor_8 : decode cX4_divisor 8 = .ok (.iload_n 2, 1) := dk_28 (dk_at dksX4_divisor_0 8 rfl rfl)
theorem dX4_divisor_9 : decode cX4_divisor 9 = .ok (.iload_n 3, 1) := dk_29 (dk_at dksX4_divisor_0 9 rfl rfl)
theorem dX4_divisor_10 : decode cX4_divisor 10 = .ok (.irem, 1) := dk_112 (dk_at dksX4_divisor_0 10 rfl rfl)
theorem dX4_divisor_11 : decode cX4_divisor 11 = .ok (.istore 4, 2) := dk_54 4 (dk_at dksX4_divisor_0 11 rfl rfl)
theorem dX4_divisor_13 : decode cX4_divisor 13 = .ok (.iload_n 3, 1) := dk_29 (dk_at dksX4_divisor_0 13 rfl rfl)
theorem dX4_divisor_14 : decode cX4_divisor 14 = .ok (.istore_n 2, 1) := dk_61 (dk_at dksX4_divisor_0 14 rfl rfl)
theorem dX4_divisor_15 : decode cX4_divisor 15 = .ok (.iload 4, 2) := dk_21 4 (dk_at dksX4_divisor_0 15 rfl rfl)
theorem dX4_divisor_17 : decode cX4_divisor 17 = .ok (.istore_n 3, 1) := dk_62 (dk_at dksX4_divisor_0 17 rfl rfl)
theorem dX4_divisor_18 : decode cX4_divisor 18 = .ok (.goto (-14), 3) := dk_167 255 242 (dk_at dksX4_divisor_0 18 rfl rfl)
theorem dX4_divisor_21 : decode cX4_divisor 21 = .ok (.iload_n 2, 1) := dk_28 (dk_at dksX4_divisor_0 21 rfl rfl)
theorem dX4_divisor_22 : decode cX4_divisor 22 = .ok (.ireturn, 1) := dk_172 (dk_at dksX4_divisor_0 22 rfl rfl)
abbrev cX4_least : ByteArray := prog_22_method_110_code
def yX4_least : MethodName := ⟨RX4, "least", "(IIZ)I"⟩
def dkwX4_least_1 : List UInt8 := [162, 0, 14, 42, 27, 2, 28, 29, 182, 2, 49, 167, 0, 4, 2, 172]
abbrev dktX4_least_1 : List UInt8 := dkwX4_least_1 ++ []
def dkwX4_least_0 : List UInt8 := [42, 27, 182, 2, 46, 153, 0, 33, 28, 3, 16, 99, 184, 1, 145, 153, 0, 23, 42, 180, 1, 155, 16, 30]
abbrev dktX4_least_0 : List UInt8 := dkwX4_least_0 ++ dktX4_least_1
theorem dksX4_least_0 : cX4_least.data.toList.drop 0 = dktX4_least_0 := by decide +kernel
theorem dksX4_least_1 : cX4_least.data.toList.drop 24 = dktX4_least_1 := dk_seg dksX4_least_0 24 rfl rfl
theorem dX4_least_0 : decode cX4_least 0 = .ok (.aload_n 0, 1) := dk_42 (dk_at dksX4_least_0 0 rfl rfl)
theorem dX4_least_1 : decode cX4_least 1 = .ok (.iload_n 1, 1) := dk_27 (dk_at dksX4_least_0 1 rfl rfl)
theorem dX4_least_2 : decode cX4_least 2 = .ok (.invokevirtual 558, 3) := dk_182 2 46 (dk_at dksX4_least_0 2 rfl rfl)
theorem dX4_least_5 : decode cX4_least 5 = .ok (.ifCond .eq 33, 3) := dk_153 0 33 (dk_at dksX4_least_0 5 rfl rfl)
theorem dX4_least_8 : decode cX4_least 8 = .ok (.iload_n 2, 1) := dk_28 (dk_at dksX4_least_0 8 rfl rfl)
theorem dX4_least_9 : decode cX4_least 9 = .ok (.iconst 0, 1) := dk_3 (dk_at dksX4_least_0 9 rfl rfl)
theorem dX4_least_10 : decode cX4_least 10 = .ok (.bipush 99, 2) := dk_16 99 (dk_at dksX4_least_0 10 rfl rfl)
theorem dX4_least_12 : decode cX4_least 12 = .ok (.invokestatic 401, 3) := dk_184 1 145 (dk_at dksX4_least_0 12 rfl rfl)
theorem dX4_least_15 : decode cX4_least 15 = .ok (.ifCond .eq 23, 3) := dk_153 0 23 (dk_at dksX4_least_0 15 rfl rfl)
theorem dX4_least_18 : decode cX4_least 18 = .ok (.aload_n 0, 1) := dk_42 (dk_at dksX4_least_0 18 rfl rfl)
theorem dX4_least_19 : decode cX4_least 19 = .ok (.getfield 411, 3) := dk_180 1 155 (dk_at dksX4_least_0 19 rfl rfl)
theorem dX4_least_22 : decode cX4_least 22 = .ok (.bipush 30, 2) := dk_16 30 (dk_at dksX4_least_0 22 rfl rfl)
theorem dX4_least_24 : decode cX4_least 24 = .ok (.if_icmp .ge 14, 3) := dk_162 0 14 (dk_at dksX4_least_1 0 rfl rfl)
theorem dX4_least_27 : decode cX4_least 27 = .ok (.aload_n 0, 1) := dk_42 (dk_at dksX4_least_1 3 rfl rfl)
theorem dX4_least_28 : decode cX4_least 28 = .ok (.iload_n 1, 1) := dk_27 (dk_at dksX4_least_1 4 rfl rfl)
theorem dX4_least_29 : decode cX4_least 29 = .ok (.iconst (-1), 1) := dk_2 (dk_at dksX4_least_1 5 rfl rfl)
theorem dX4_least_30 : decode cX4_least 30 = .ok (.iload_n 2, 1) := dk_28 (dk_at dksX4_least_1 6 rfl rfl)
theorem dX4_least_31 : decode cX4_least 31 = .ok (.iload_n 3, 1) := dk_29 (dk_at dksX4_least_1 7 rfl rfl)
theorem dX4_least_32 : decode cX4_least 32 = .ok (.invokevirtual 561, 3) := dk_182 2 49 (dk_at dksX4_least_1 8 rfl rfl)
theorem dX4_least_35 : decode cX4_least 35 = .ok (.goto 4, 3) := dk_167 0 4 (dk_at dksX4_least_1 11 rfl rfl)
theorem dX4_least_38 : decode cX4_least 38 = .ok (.iconst (-1), 1) := dk_2 (dk_at dksX4_least_1 14 rfl rfl)
theorem dX4_least_39 : decode cX4_least 39 = .ok (.ireturn, 1) := dk_172 (dk_at dksX4_least_1 15 rfl rfl)
abbrev cX4_isFirst : ByteArray := prog_22_method_108_code
def yX4_isFirst : MethodName := ⟨RX4, "isFirst", "(I)Z"⟩
def dkwX4_isFirst_0 : List UInt8 := [27, 3, 42, 182, 2, 40, 4, 100, 184, 1, 145, 172]
abbrev dktX4_isFirst_0 : List UInt8 := dkwX4_isFirst_0 ++ []
theorem dksX4_isFirst_0 : cX4_isFirst.data.toList.drop 0 = dktX4_isFirst_0 := by decide +kernel
theorem dX4_isFirst_0 : decode cX4_isFirst 0 = .ok (.iload_n 1, 1) := dk_27 (dk_at dksX4_isFirst_0 0 rfl rfl)
theorem dX4_isFirst_1 : decode cX4_isFirst 1 = .ok (.iconst 0, 1) := dk_3 (dk_at dksX4_isFirst_0 1 rfl rfl)
theorem dX4_isFirst_2 : decode cX4_isFirst 2 = .ok (.aload_n 0, 1) := dk_42 (dk_at dksX4_isFirst_0 2 rfl rfl)
theorem dX4_isFirst_3 : decode cX4_isFirst 3 = .ok (.invokevirtual 552, 3) := dk_182 2 40 (dk_at dksX4_isFirst_0 3 rfl rfl)
theorem dX4_isFirst_6 : decode cX4_isFirst 6 = .ok (.iconst 1, 1) := dk_4 (dk_at dksX4_isFirst_0 6 rfl rfl)
theorem dX4_isFirst_7 : decode cX4_isFirst 7 = .ok (.isub, 1) := dk_100 (dk_at dksX4_isFirst_0 7 rfl rfl)
theorem dX4_isFirst_8 : decode cX4_isFirst 8 = .ok (.invokestatic 401, 3) := dk_184 1 145 (dk_at dksX4_isFirst_0 8 rfl rfl)
theorem dX4_isFirst_11 : decode cX4_isFirst 11 = .ok (.ireturn, 1) := dk_172 (dk_at dksX4_isFirst_0 11 rfl rfl)
abbrev cX4_firsts : ByteArray := prog_22_method_107_code
def yX4_firsts : MethodName := ⟨RX4, "firsts", "()I"⟩
def dkwX4_firsts_0 : List UInt8 := [42, 182, 1, 142, 42, 180, 0, 27, 42, 180, 1, 45, 46, 184, 1, 196, 172]
abbrev dktX4_firsts_0 : List UInt8 := dkwX4_firsts_0 ++ []
theorem dksX4_firsts_0 : cX4_firsts.data.toList.drop 0 = dktX4_firsts_0 := by decide +kernel
theorem dX4_firsts_0 : decode cX4_firsts 0 = .ok (.aload_n 0, 1) := dk_42 (dk_at dksX4_firsts_0 0 rfl rfl)
theorem dX4_firsts_1 : decode cX4_firsts 1 = .ok (.invokevirtual 398, 3) := dk_182 1 142 (dk_at dksX4_firsts_0 1 rfl rfl)
theorem dX4_firsts_4 : decode cX4_firsts 4 = .ok (.aload_n 0, 1) := dk_42 (dk_at dksX4_firsts_0 4 rfl rfl)
theorem dX4_firsts_5 : decode cX4_firsts 5 = .ok (.getfield 27, 3) := dk_180 0 27 (dk_at dksX4_firsts_0 5 rfl rfl)
theorem dX4_firsts_8 : decode cX4_firsts 8 = .ok (.aload_n 0, 1) := dk_42 (dk_at dksX4_firsts_0 8 rfl rfl)
theorem dX4_firsts_9 : decode cX4_firsts 9 = .ok (.getfield 301, 3) := dk_180 1 45 (dk_at dksX4_firsts_0 9 rfl rfl)
theorem dX4_firsts_12 : decode cX4_firsts 12 = .ok (.iaload, 1) := dk_46 (dk_at dksX4_firsts_0 12 rfl rfl)
theorem dX4_firsts_13 : decode cX4_firsts 13 = .ok (.invokestatic 452, 3) := dk_184 1 196 (dk_at dksX4_firsts_0 13 rfl rfl)
theorem dX4_firsts_16 : decode cX4_firsts 16 = .ok (.ireturn, 1) := dk_172 (dk_at dksX4_firsts_0 16 rfl rfl)
abbrev cX4_tell : ByteArray := prog_22_method_109_code
def yX4_tell : MethodName := ⟨RX4, "tell", "(IIIZ)I"⟩
def dkwX4_tell_3 : List UInt8 := [42, 89, 180, 1, 155, 4, 96, 181, 1, 155, 42, 180, 1, 155, 4, 100, 172]
abbrev dktX4_tell_3 : List UInt8 := dkwX4_tell_3 ++ []
def dkwX4_tell_2 : List UInt8 := [79, 42, 180, 0, 161, 42, 180, 1, 155, 42, 180, 2, 43, 79, 42, 180, 0, 164, 42, 180, 1, 155, 2, 79]
abbrev dktX4_tell_2 : List UInt8 := dkwX4_tell_2 ++ dktX4_tell_3
def dkwX4_tell_1 : List UInt8 := [42, 180, 1, 155, 29, 79, 42, 180, 0, 158, 42, 180, 1, 155, 21, 4, 153, 0, 7, 4, 167, 0, 4, 3]
abbrev dktX4_tell_1 : List UInt8 := dkwX4_tell_1 ++ dktX4_tell_2
def dkwX4_tell_0 : List UInt8 := [42, 180, 0, 149, 42, 180, 1, 155, 27, 79, 42, 180, 0, 152, 42, 180, 1, 155, 28, 79, 42, 180, 0, 155]
abbrev dktX4_tell_0 : List UInt8 := dkwX4_tell_0 ++ dktX4_tell_1
theorem dksX4_tell_0 : cX4_tell.data.toList.drop 0 = dktX4_tell_0 := by decide +kernel
theorem dksX4_tell_1 : cX4_tell.data.toList.drop 24 = dktX4_tell_1 := dk_seg dksX4_tell_0 24 rfl rfl
theorem dksX4_tell_2 : cX4_tell.data.toList.drop 48 = dktX4_tell_2 := dk_seg dksX4_tell_1 24 rfl rfl
theorem dksX4_tell_3 : cX4_tell.data.toList.drop 72 = dktX4_tell_3 := dk_seg dksX4_tell_2 24 rfl rfl
theorem dX4_tell_0 : decode cX4_tell 0 = .ok (.aload_n 0, 1) := dk_42 (dk_at dksX4_tell_0 0 rfl rfl)
theorem dX4_tell_1 : decode cX4_tell 1 = .ok (.getfield 149, 3) := dk_180 0 149 (dk_at dksX4_tell_0 1 rfl rfl)
theorem dX4_tell_4 : decode cX4_tell 4 = .ok (.aload_n 0, 1) := dk_42 (dk_at dksX4_tell_0 4 rfl rfl)
theorem dX4_tell_5 : decode cX4_tell 5 = .ok (.getfield 411, 3) := dk_180 1 155 (dk_at dksX4_tell_0 5 rfl rfl)
theorem dX4_tell_8 : decode cX4_tell 8 = .ok (.iload_n 1, 1) := dk_27 (dk_at dksX4_tell_0 8 rfl rfl)
theorem dX4_tell_9 : decode cX4_tell 9 = .ok (.iastore, 1) := dk_79 (dk_at dksX4_tell_0 9 rfl rfl)
theorem dX4_tell_10 : decode cX4_tell 10 = .ok (.aload_n 0, 1) := dk_42 (dk_at dksX4_tell_0 10 rfl rfl)
theorem dX4_tell_11 : decode cX4_tell 11 = .ok (.getfield 152, 3) := dk_180 0 152 (dk_at dksX4_tell_0 11 rfl rfl)
theorem dX4_tell_14 : decode cX4_tell 14 = .ok (.aload_n 0, 1) := dk_42 (dk_at dksX4_tell_0 14 rfl rfl)
theorem dX4_tell_15 : decode cX4_tell 15 = .ok (.getfield 411, 3) := dk_180 1 155 (dk_at dksX4_tell_0 15 rfl rfl)
theorem dX4_tell_18 : decode cX4_tell 18 = .ok (.iload_n 2, 1) := dk_28 (dk_at dksX4_tell_0 18 rfl rfl)
theorem dX4_tell_19 : decode cX4_tell 19 = .ok (.iastore, 1) := dk_79 (dk_at dksX4_tell_0 19 rfl rfl)
theorem dX4_tell_20 : decode cX4_tell 20 = .ok (.aload_n 0, 1) := dk_42 (dk_at dksX4_tell_0 20 rfl rfl)
theorem dX4_tell_21 : decode cX4_tell 21 = .ok (.getfield 155, 3) := dk_180 0 155 (dk_at dksX4_tell_0 21 rfl rfl)
theorem dX4_tell_24 : decode cX4_tell 24 = .ok (.aload_n 0, 1) := dk_42 (dk_at dksX4_tell_1 0 rfl rfl)
theorem dX4_tell_25 : decode cX4_tell 25 = .ok (.getfield 411, 3) := dk_180 1 155 (dk_at dksX4_tell_1 1 rfl rfl)
theorem dX4_tell_28 : decode cX4_tell 28 = .ok (.iload_n 3, 1) := dk_29 (dk_at dksX4_tell_1 4 rfl rfl)
theorem dX4_tell_29 : decode cX4_tell 29 = .ok (.iastore, 1) := dk_79 (dk_at dksX4_tell_1 5 rfl rfl)
theorem dX4_tell_30 : decode cX4_tell 30 = .ok (.aload_n 0, 1) := dk_42 (dk_at dksX4_tell_1 6 rfl rfl)
theorem dX4_tell_31 : decode cX4_tell 31 = .ok (.getfield 158, 3) := dk_180 0 158 (dk_at dksX4_tell_1 7 rfl rfl)
theorem dX4_tell_34 : decode cX4_tell 34 = .ok (.aload_n 0, 1) := dk_42 (dk_at dksX4_tell_1 10 rfl rfl)
theorem dX4_tell_35 : decode cX4_tell 35 = .ok (.getfield 411, 3) := dk_180 1 155 (dk_at dksX4_tell_1 11 rfl rfl)
theorem dX4_tell_38 : decode cX4_tell 38 = .ok (.iload 4, 2) := dk_21 4 (dk_at dksX4_tell_1 14 rfl rfl)
theorem dX4_tell_40 : decode cX4_tell 40 = .ok (.ifCond .eq 7, 3) := dk_153 0 7 (dk_at dksX4_tell_1 16 rfl rfl)
theorem dX4_tell_43 : decode cX4_tell 43 = .ok (.iconst 1, 1) := dk_4 (dk_at dksX4_tell_1 19 rfl rfl)
theorem dX4_tell_44 : decode cX4_tell 44 = .ok (.goto 4, 3) := dk_167 0 4 (dk_at dksX4_tell_1 20 rfl rfl)
theorem dX4_tell_47 : decode cX4_tell 47 = .ok (.iconst 0, 1) := dk_3 (dk_at dksX4_tell_1 23 rfl rfl)
theorem dX4_tell_48 : decode cX4_tell 48 = .ok (.iastore, 1) := dk_79 (dk_at dksX4_tell_2 0 rfl rfl)
theorem dX4_tell_49 : decode cX4_tell 49 = .ok (.aload_n 0, 1) := dk_42 (dk_at dksX4_tell_2 1 rfl rfl)
theorem dX4_tell_50 : decode cX4_tell 50 = .ok (.getfield 161, 3) := dk_180 0 161 (dk_at dksX4_tell_2 2 rfl rfl)
theorem dX4_tell_53 : decode cX4_tell 53 = .ok (.aload_n 0, 1) := dk_42 (dk_at dksX4_tell_2 5 rfl rfl)
theorem dX4_tell_54 : decode cX4_tell 54 = .ok (.getfield 411, 3) := dk_180 1 155 (dk_at dksX4_tell_2 6 rfl rfl)
theorem dX4_tell_57 : decode cX4_tell 57 = .ok (.aload_n 0, 1) := dk_42 (dk_at dksX4_tell_2 9 rfl rfl)
theorem dX4_tell_58 : decode cX4_tell 58 = .ok (.getfield 555, 3) := dk_180 2 43 (dk_at dksX4_tell_2 10 rfl rfl)
theorem dX4_tell_61 : decode cX4_tell 61 = .ok (.iastore, 1) := dk_79 (dk_at dksX4_tell_2 13 rfl rfl)
theorem dX4_tell_62 : decode cX4_tell 62 = .ok (.aload_n 0, 1) := dk_42 (dk_at dksX4_tell_2 14 rfl rfl)
theorem dX4_tell_63 : decode cX4_tell 63 = .ok (.getfield 164, 3) := dk_180 0 164 (dk_at dksX4_tell_2 15 rfl rfl)
theorem dX4_tell_66 : decode cX4_tell 66 = .ok (.aload_n 0, 1) := dk_42 (dk_at dksX4_tell_2 18 rfl rfl)
theorem dX4_tell_67 : decode cX4_tell 67 = .ok (.getfield 411, 3) := dk_180 1 155 (dk_at dksX4_tell_2 19 rfl rfl)
theorem dX4_tell_70 : decode cX4_tell 70 = .ok (.iconst (-1), 1) := dk_2 (dk_at dksX4_tell_2 22 rfl rfl)
theorem dX4_tell_71 : decode cX4_tell 71 = .ok (.iastore, 1) := dk_79 (dk_at dksX4_tell_2 23 rfl rfl)
theorem dX4_tell_72 : decode cX4_tell 72 = .ok (.aload_n 0, 1) := dk_42 (dk_at dksX4_tell_3 0 rfl rfl)
theorem dX4_tell_73 : decode cX4_tell 73 = .ok (.dup, 1) := dk_89 (dk_at dksX4_tell_3 1 rfl rfl)
theorem dX4_tell_74 : decode cX4_tell 74 = .ok (.getfield 411, 3) := dk_180 1 155 (dk_at dksX4_tell_3 2 rfl rfl)
theorem dX4_tell_77 : decode cX4_tell 77 = .ok (.iconst 1, 1) := dk_4 (dk_at dksX4_tell_3 5 rfl rfl)
theorem dX4_tell_78 : decode cX4_tell 78 = .ok (.iadd, 1) := dk_96 (dk_at dksX4_tell_3 6 rfl rfl)
theorem dX4_tell_79 : decode cX4_tell 79 = .ok (.putfield 411, 3) := dk_181 1 155 (dk_at dksX4_tell_3 7 rfl rfl)
theorem dX4_tell_82 : decode cX4_tell 82 = .ok (.aload_n 0, 1) := dk_42 (dk_at dksX4_tell_3 10 rfl rfl)
theorem dX4_tell_83 : decode cX4_tell 83 = .ok (.getfield 411, 3) := dk_180 1 155 (dk_at dksX4_tell_3 11 rfl rfl)
theorem dX4_tell_86 : decode cX4_tell 86 = .ok (.iconst 1, 1) := dk_4 (dk_at dksX4_tell_3 14 rfl rfl)
theorem dX4_tell_87 : decode cX4_tell 87 = .ok (.isub, 1) := dk_100 (dk_at dksX4_tell_3 15 rfl rfl)
theorem dX4_tell_88 : decode cX4_tell 88 = .ok (.ireturn, 1) := dk_172 (dk_at dksX4_tell_3 16 rfl rfl)
abbrev cX4_more : ByteArray := prog_22_method_111_code
def yX4_more : MethodName := ⟨RX4, "more", "(IIZ)I"⟩
def dkwX4_more_1 : List UInt8 := [180, 1, 155, 16, 30, 162, 0, 14, 42, 27, 28, 3, 29, 182, 2, 49, 167, 0, 4, 2, 172]
abbrev dktX4_more_1 : List UInt8 := dkwX4_more_1 ++ []
def dkwX4_more_0 : List UInt8 := [42, 27, 182, 2, 46, 153, 0, 36, 42, 28, 182, 2, 46, 153, 0, 28, 27, 28, 159, 0, 23, 42]
abbrev dktX4_more_0 : List UInt8 := dkwX4_more_0 ++ dktX4_more_1
theorem dksX4_more_0 : cX4_more.data.toList.drop 0 = dktX4_more_0 := by decide +kernel
theorem dksX4_more_1 : cX4_more.data.toList.drop 22 = dktX4_more_1 := dk_seg dksX4_more_0 22 rfl rfl
theorem dX4_more_0 : decode cX4_more 0 = .ok (.aload_n 0, 1) := dk_42 (dk_at dksX4_more_0 0 rfl rfl)
theorem dX4_more_1 : decode cX4_more 1 = .ok (.iload_n 1, 1) := dk_27 (dk_at dksX4_more_0 1 rfl rfl)
theorem dX4_more_2 : decode cX4_more 2 = .ok (.invokevirtual 558, 3) := dk_182 2 46 (dk_at dksX4_more_0 2 rfl rfl)
theorem dX4_more_5 : decode cX4_more 5 = .ok (.ifCond .eq 36, 3) := dk_153 0 36 (dk_at dksX4_more_0 5 rfl rfl)
theorem dX4_more_8 : decode cX4_more 8 = .ok (.aload_n 0, 1) := dk_42 (dk_at dksX4_more_0 8 rfl rfl)
theorem dX4_more_9 : decode cX4_more 9 = .ok (.iload_n 2, 1) := dk_28 (dk_at dksX4_more_0 9 rfl rfl)
theorem dX4_more_10 : decode cX4_more 10 = .ok (.invokevirtual 558, 3) := dk_182 2 46 (dk_at dksX4_more_0 10 rfl rfl)
theorem dX4_more_13 : decode cX4_more 13 = .ok (.ifCond .eq 28, 3) := dk_153 0 28 (dk_at dksX4_more_0 13 rfl rfl)
theorem dX4_more_16 : decode cX4_more 16 = .ok (.iload_n 1, 1) := dk_27 (dk_at dksX4_more_0 16 rfl rfl)
theorem dX4_more_17 : decode cX4_more 17 = .ok (.iload_n 2, 1) := dk_28 (dk_at dksX4_more_0 17 rfl rfl)
theorem dX4_more_18 : decode cX4_more 18 = .ok (.if_icmp .eq 23, 3) := dk_159 0 23 (dk_at dksX4_more_0 18 rfl rfl)
theorem dX4_more_21 : decode cX4_more 21 = .ok (.aload_n 0, 1) := dk_42 (dk_at dksX4_more_0 21 rfl rfl)
theorem dX4_more_22 : decode cX4_more 22 = .ok (.getfield 411, 3) := dk_180 1 155 (dk_at dksX4_more_1 0 rfl rfl)
theorem dX4_more_25 : decode cX4_more 25 = .ok (.bipush 30, 2) := dk_16 30 (dk_at dksX4_more_1 3 rfl rfl)
theorem dX4_more_27 : decode cX4_more 27 = .ok (.if_icmp .ge 14, 3) := dk_162 0 14 (dk_at dksX4_more_1 5 rfl rfl)
theorem dX4_more_30 : decode cX4_more 30 = .ok (.aload_n 0, 1) := dk_42 (dk_at dksX4_more_1 8 rfl rfl)
theorem dX4_more_31 : decode cX4_more 31 = .ok (.iload_n 1, 1) := dk_27 (dk_at dksX4_more_1 9 rfl rfl)
theorem dX4_more_32 : decode cX4_more 32 = .ok (.iload_n 2, 1) := dk_28 (dk_at dksX4_more_1 10 rfl rfl)
theorem dX4_more_33 : decode cX4_more 33 = .ok (.iconst 0, 1) := dk_3 (dk_at dksX4_more_1 11 rfl rfl)
theorem dX4_more_34 : decode cX4_more 34 = .ok (.iload_n 3, 1) := dk_29 (dk_at dksX4_more_1 12 rfl rfl)
theorem dX4_more_35 : decode cX4_more 35 = .ok (.invokevirtual 561, 3) := dk_182 2 49 (dk_at dksX4_more_1 13 rfl rfl)
theorem dX4_more_38 : decode cX4_more 38 = .ok (.goto 4, 3) := dk_167 0 4 (dk_at dksX4_more_1 16 rfl rfl)
theorem dX4_more_41 : decode cX4_more 41 = .ok (.iconst (-1), 1) := dk_2 (dk_at dksX4_more_1 19 rfl rfl)
theorem dX4_more_42 : decode cX4_more 42 = .ok (.ireturn, 1) := dk_172 (dk_at dksX4_more_1 20 rfl rfl)
abbrev cX4_untell : ByteArray := prog_22_method_112_code
def yX4_untell : MethodName := ⟨RX4, "untell", "(I)Z"⟩
def dkwX4_untell_1 : List UInt8 := [172, 42, 180, 0, 164, 27, 42, 180, 2, 43, 79, 4, 172]
abbrev dktX4_untell_1 : List UInt8 := dkwX4_untell_1 ++ []
def dkwX4_untell_0 : List UInt8 := [27, 3, 42, 180, 1, 155, 4, 100, 184, 1, 145, 153, 0, 12, 42, 180, 0, 164, 27, 46, 155, 0, 5, 3]
abbrev dktX4_untell_0 : List UInt8 := dkwX4_untell_0 ++ dktX4_untell_1
theorem dksX4_untell_0 : cX4_untell.data.toList.drop 0 = dktX4_untell_0 := by decide +kernel
theorem dksX4_untell_1 : cX4_untell.data.toList.drop 24 = dktX4_untell_1 := dk_seg dksX4_untell_0 24 rfl rfl
theorem dX4_untell_0 : decode cX4_untell 0 = .ok (.iload_n 1, 1) := dk_27 (dk_at dksX4_untell_0 0 rfl rfl)
theorem dX4_untell_1 : decode cX4_untell 1 = .ok (.iconst 0, 1) := dk_3 (dk_at dksX4_untell_0 1 rfl rfl)
theorem dX4_untell_2 : decode cX4_untell 2 = .ok (.aload_n 0, 1) := dk_42 (dk_at dksX4_untell_0 2 rfl rfl)
theorem dX4_untell_3 : decode cX4_untell 3 = .ok (.getfield 411, 3) := dk_180 1 155 (dk_at dksX4_untell_0 3 rfl rfl)
theorem dX4_untell_6 : decode cX4_untell 6 = .ok (.iconst 1, 1) := dk_4 (dk_at dksX4_untell_0 6 rfl rfl)
theorem dX4_untell_7 : decode cX4_untell 7 = .ok (.isub, 1) := dk_100 (dk_at dksX4_untell_0 7 rfl rfl)
theorem dX4_untell_8 : decode cX4_untell 8 = .ok (.invokestatic 401, 3) := dk_184 1 145 (dk_at dksX4_untell_0 8 rfl rfl)
theorem dX4_untell_11 : decode cX4_untell 11 = .ok (.ifCond .eq 12, 3) := dk_153 0 12 (dk_at dksX4_untell_0 11 rfl rfl)
theorem dX4_untell_14 : decode cX4_untell 14 = .ok (.aload_n 0, 1) := dk_42 (dk_at dksX4_untell_0 14 rfl rfl)
theorem dX4_untell_15 : decode cX4_untell 15 = .ok (.getfield 164, 3) := dk_180 0 164 (dk_at dksX4_untell_0 15 rfl rfl)
theorem dX4_untell_18 : decode cX4_untell 18 = .ok (.iload_n 1, 1) := dk_27 (dk_at dksX4_untell_0 18 rfl rfl)
theorem dX4_untell_19 : decode cX4_untell 19 = .ok (.iaload, 1) := dk_46 (dk_at dksX4_untell_0 19 rfl rfl)
theorem dX4_untell_20 : decode cX4_untell 20 = .ok (.ifCond .lt 5, 3) := dk_155 0 5 (dk_at dksX4_untell_0 20 rfl rfl)
theorem dX4_untell_23 : decode cX4_untell 23 = .ok (.iconst 0, 1) := dk_3 (dk_at dksX4_untell_0 23 rfl rfl)
theorem dX4_untell_24 : decode cX4_untell 24 = .ok (.ireturn, 1) := dk_172 (dk_at dksX4_untell_1 0 rfl rfl)
theorem dX4_untell_25 : decode cX4_untell 25 = .ok (.aload_n 0, 1) := dk_42 (dk_at dksX4_untell_1 1 rfl rfl)
theorem dX4_untell_26 : decode cX4_untell 26 = .ok (.getfield 164, 3) := dk_180 0 164 (dk_at dksX4_untell_1 2 rfl rfl)
theorem dX4_untell_29 : decode cX4_untell 29 = .ok (.iload_n 1, 1) := dk_27 (dk_at dksX4_untell_1 5 rfl rfl)
theorem dX4_untell_30 : decode cX4_untell 30 = .ok (.aload_n 0, 1) := dk_42 (dk_at dksX4_untell_1 6 rfl rfl)
theorem dX4_untell_31 : decode cX4_untell 31 = .ok (.getfield 555, 3) := dk_180 2 43 (dk_at dksX4_untell_1 7 rfl rfl)
theorem dX4_untell_34 : decode cX4_untell 34 = .ok (.iastore, 1) := dk_79 (dk_at dksX4_untell_1 10 rfl rfl)
theorem dX4_untell_35 : decode cX4_untell 35 = .ok (.iconst 1, 1) := dk_4 (dk_at dksX4_untell_1 11 rfl rfl)
theorem dX4_untell_36 : decode cX4_untell 36 = .ok (.ireturn, 1) := dk_172 (dk_at dksX4_untell_1 12 rfl rfl)
abbrev cX4_later : ByteArray := prog_22_method_113_code
def yX4_later : MethodName := ⟨RX4, "later", "(I)I"⟩
def dkwX4_later_1 : List UInt8 := [172, 42, 89, 180, 2, 43, 27, 96, 181, 2, 43, 42, 180, 2, 43, 172]
abbrev dktX4_later_1 : List UInt8 := dkwX4_later_1 ++ []
def dkwX4_later_0 : List UInt8 := [27, 3, 17, 3, 232, 184, 1, 145, 153, 0, 15, 42, 180, 2, 43, 27, 96, 19, 2, 53, 164, 0, 5, 2]
abbrev dktX4_later_0 : List UInt8 := dkwX4_later_0 ++ dktX4_later_1
theorem dksX4_later_0 : cX4_later.data.toList.drop 0 = dktX4_later_0 := by decide +kernel
theorem dksX4_later_1 : cX4_later.data.toList.drop 24 = dktX4_later_1 := dk_seg dksX4_later_0 24 rfl rfl
theorem dX4_later_0 : decode cX4_later 0 = .ok (.iload_n 1, 1) := dk_27 (dk_at dksX4_later_0 0 rfl rfl)
theorem dX4_later_1 : decode cX4_later 1 = .ok (.iconst 0, 1) := dk_3 (dk_at dksX4_later_0 1 rfl rfl)
theorem dX4_later_2 : decode cX4_later 2 = .ok (.sipush 1000, 3) := dk_17 3 232 (dk_at dksX4_later_0 2 rfl rfl)
theorem dX4_later_5 : decode cX4_later 5 = .ok (.invokestatic 401, 3) := dk_184 1 145 (dk_at dksX4_later_0 5 rfl rfl)
theorem dX4_later_8 : decode cX4_later 8 = .ok (.ifCond .eq 15, 3) := dk_153 0 15 (dk_at dksX4_later_0 8 rfl rfl)
theorem dX4_later_11 : decode cX4_later 11 = .ok (.aload_n 0, 1) := dk_42 (dk_at dksX4_later_0 11 rfl rfl)
theorem dX4_later_12 : decode cX4_later 12 = .ok (.getfield 555, 3) := dk_180 2 43 (dk_at dksX4_later_0 12 rfl rfl)
theorem dX4_later_15 : decode cX4_later 15 = .ok (.iload_n 1, 1) := dk_27 (dk_at dksX4_later_0 15 rfl rfl)
theorem dX4_later_16 : decode cX4_later 16 = .ok (.iadd, 1) := dk_96 (dk_at dksX4_later_0 16 rfl rfl)
theorem dX4_later_17 : decode cX4_later 17 = .ok (.ldc_w 565, 3) := dk_19 2 53 (dk_at dksX4_later_0 17 rfl rfl)
theorem dX4_later_20 : decode cX4_later 20 = .ok (.if_icmp .le 5, 3) := dk_164 0 5 (dk_at dksX4_later_0 20 rfl rfl)
theorem dX4_later_23 : decode cX4_later 23 = .ok (.iconst (-1), 1) := dk_2 (dk_at dksX4_later_0 23 rfl rfl)
theorem dX4_later_24 : decode cX4_later 24 = .ok (.ireturn, 1) := dk_172 (dk_at dksX4_later_1 0 rfl rfl)
theorem dX4_later_25 : decode cX4_later 25 = .ok (.aload_n 0, 1) := dk_42 (dk_at dksX4_later_1 1 rfl rfl)
theorem dX4_later_26 : decode cX4_later 26 = .ok (.dup, 1) := dk_89 (dk_at dksX4_later_1 2 rfl rfl)
theorem dX4_later_27 : decode cX4_later 27 = .ok (.getfield 555, 3) := dk_180 2 43 (dk_at dksX4_later_1 3 rfl rfl)
theorem dX4_later_30 : decode cX4_later 30 = .ok (.iload_n 1, 1) := dk_27 (dk_at dksX4_later_1 6 rfl rfl)
theorem dX4_later_31 : decode cX4_later 31 = .ok (.iadd, 1) := dk_96 (dk_at dksX4_later_1 7 rfl rfl)
theorem dX4_later_32 : decode cX4_later 32 = .ok (.putfield 555, 3) := dk_181 2 43 (dk_at dksX4_later_1 8 rfl rfl)
theorem dX4_later_35 : decode cX4_later 35 = .ok (.aload_n 0, 1) := dk_42 (dk_at dksX4_later_1 11 rfl rfl)
theorem dX4_later_36 : decode cX4_later 36 = .ok (.getfield 555, 3) := dk_180 2 43 (dk_at dksX4_later_1 12 rfl rfl)
theorem dX4_later_39 : decode cX4_later 39 = .ok (.ireturn, 1) := dk_172 (dk_at dksX4_later_1 15 rfl rfl)
abbrev cX4_orders : ByteArray := prog_22_method_118_code
def yX4_orders : MethodName := ⟨RX4, "orders", "(I)I"⟩
def dkwX4_orders_0 : List UInt8 := [42, 27, 182, 2, 66, 42, 180, 2, 57, 172]
abbrev dktX4_orders_0 : List UInt8 := dkwX4_orders_0 ++ []
theorem dksX4_orders_0 : cX4_orders.data.toList.drop 0 = dktX4_orders_0 := by decide +kernel
theorem dX4_orders_0 : decode cX4_orders 0 = .ok (.aload_n 0, 1) := dk_42 (dk_at dksX4_orders_0 0 rfl rfl)
theorem dX4_orders_1 : decode cX4_orders 1 = .ok (.iload_n 1, 1) := dk_27 (dk_at dksX4_orders_0 1 rfl rfl)
theorem dX4_orders_2 : decode cX4_orders 2 = .ok (.invokevirtual 578, 3) := dk_182 2 66 (dk_at dksX4_orders_0 2 rfl rfl)
theorem dX4_orders_5 : decode cX4_orders 5 = .ok (.aload_n 0, 1) := dk_42 (dk_at dksX4_orders_0 5 rfl rfl)
theorem dX4_orders_6 : decode cX4_orders 6 = .ok (.getfield 569, 3) := dk_180 2 57 (dk_at dksX4_orders_0 6 rfl rfl)
theorem dX4_orders_9 : decode cX4_orders 9 = .ok (.ireturn, 1) := dk_172 (dk_at dksX4_orders_0 9 rfl rfl)
abbrev cX4_layOrders : ByteArray := prog_22_method_117_code
def yX4_layOrders : MethodName := ⟨RX4, "layOrders", "(I)V"⟩
def dkwX4_layOrders_5 : List UInt8 := [46, 4, 96, 79, 132, 4, 1, 167, 255, 223, 132, 3, 1, 167, 255, 180, 177]
abbrev dktX4_layOrders_5 : List UInt8 := dkwX4_layOrders_5 ++ []
def dkwX4_layOrders_4 : List UInt8 := [42, 182, 2, 40, 162, 0, 30, 42, 180, 0, 170, 8, 21, 4, 104, 42, 180, 0, 167, 21, 4, 46, 96, 92]
abbrev dktX4_layOrders_4 : List UInt8 := dkwX4_layOrders_4 ++ dktX4_layOrders_5
def dkwX4_layOrders_3 : List UInt8 := [182, 2, 63, 154, 0, 6, 167, 0, 52, 42, 89, 180, 2, 57, 4, 96, 181, 2, 57, 3, 54, 4, 21, 4]
abbrev dktX4_layOrders_3 : List UInt8 := dkwX4_layOrders_3 ++ dktX4_layOrders_4
def dkwX4_layOrders_2 : List UInt8 := [132, 3, 1, 167, 255, 240, 3, 62, 29, 28, 162, 0, 77, 42, 29, 182, 2, 60, 153, 0, 63, 42, 27]
abbrev dktX4_layOrders_2 : List UInt8 := dkwX4_layOrders_2 ++ dktX4_layOrders_3
def dkwX4_layOrders_1 : List UInt8 := [167, 255, 238, 42, 3, 181, 2, 57, 3, 62, 29, 16, 25, 162, 0, 16, 42, 180, 0, 170, 29, 3, 79]
abbrev dktX4_layOrders_1 : List UInt8 := dkwX4_layOrders_1 ++ dktX4_layOrders_2
def dkwX4_layOrders_0 : List UInt8 := [4, 61, 3, 62, 29, 42, 182, 2, 40, 162, 0, 16, 28, 42, 182, 2, 40, 104, 61, 132, 3, 1]
abbrev dktX4_layOrders_0 : List UInt8 := dkwX4_layOrders_0 ++ dktX4_layOrders_1
theorem dksX4_layOrders_0 : cX4_layOrders.data.toList.drop 0 = dktX4_layOrders_0 := by decide +kernel
theorem dksX4_layOrders_1 : cX4_layOrders.data.toList.drop 22 = dktX4_layOrders_1 := dk_seg dksX4_layOrders_0 22 rfl rfl
theorem dksX4_layOrders_2 : cX4_layOrders.data.toList.drop 45 = dktX4_layOrders_2 := dk_seg dksX4_layOrders_1 23 rfl rfl
theorem dksX4_layOrders_3 : cX4_layOrders.data.toList.drop 68 = dktX4_layOrders_3 := dk_seg dksX4_layOrders_2 23 rfl rfl
theorem dksX4_layOrders_4 : cX4_layOrders.data.toList.drop 92 = dktX4_layOrders_4 := dk_seg dksX4_layOrders_3 24 rfl rfl
theorem dksX4_layOrders_5 : cX4_layOrders.data.toList.drop 116 = dktX4_layOrders_5 := dk_seg dksX4_layOrders_4 24 rfl rfl
theorem dX4_layOrders_0 : decode cX4_layOrders 0 = .ok (.iconst 1, 1) := dk_4 (dk_at dksX4_layOrders_0 0 rfl rfl)
theorem dX4_layOrders_1 : decode cX4_layOrders 1 = .ok (.istore_n 2, 1) := dk_61 (dk_at dksX4_layOrders_0 1 rfl rfl)
theorem dX4_layOrders_2 : decode cX4_layOrders 2 = .ok (.iconst 0, 1) := dk_3 (dk_at dksX4_layOrders_0 2 rfl rfl)
theorem dX4_layOrders_3 : decode cX4_layOrders 3 = .ok (.istore_n 3, 1) := dk_62 (dk_at dksX4_layOrders_0 3 rfl rfl)
theorem dX4_layOrders_4 : decode cX4_layOrders 4 = .ok (.iload_n 3, 1) := dk_29 (dk_at dksX4_layOrders_0 4 rfl rfl)
theorem dX4_layOrders_5 : decode cX4_layOrders 5 = .ok (.aload_n 0, 1) := dk_42 (dk_at dksX4_layOrders_0 5 rfl rfl)
theorem dX4_layOrders_6 : decode cX4_layOrders 6 = .ok (.invokevirtual 552, 3) := dk_182 2 40 (dk_at dksX4_layOrders_0 6 rfl rfl)
theorem dX4_layOrders_9 : decode cX4_layOrders 9 = .ok (.if_icmp .ge 16, 3) := dk_162 0 16 (dk_at dksX4_layOrders_0 9 rfl rfl)
theorem dX4_layOrders_12 : decode cX4_layOrders 12 = .ok (.iload_n 2, 1) := dk_28 (dk_at dksX4_layOrders_0 12 rfl rfl)
theorem dX4_layOrders_13 : decode cX4_layOrders 13 = .ok (.aload_n 0, 1) := dk_42 (dk_at dksX4_layOrders_0 13 rfl rfl)
theorem dX4_layOrders_14 : decode cX4_layOrders 14 = .ok (.invokevirtual 552, 3) := dk_182 2 40 (dk_at dksX4_layOrders_0 14 rfl rfl)
theorem dX4_layOrders_17 : decode cX4_layOrders 17 = .ok (.imul, 1) := dk_104 (dk_at dksX4_layOrders_0 17 rfl rfl)
theorem dX4_layOrders_18 : decode cX4_layOrders 18 = .ok (.istore_n 2, 1) := dk_61 (dk_at dksX4_layOrders_0 18 rfl rfl)
theorem dX4_layOrders_19 : decode cX4_layOrders 19 = .ok (.iinc 3 1, 3) := dk_132 3 1 (dk_at dksX4_layOrders_0 19 rfl rfl)
theorem dX4_layOrders_22 : decode cX4_layOrders 22 = .ok (.goto (-18), 3) := dk_167 255 238 (dk_at dksX4_layOrders_1 0 rfl rfl)
theorem dX4_layOrders_25 : decode cX4_layOrders 25 = .ok (.aload_n 0, 1) := dk_42 (dk_at dksX4_layOrders_1 3 rfl rfl)
theorem dX4_layOrders_26 : decode cX4_layOrders 26 = .ok (.iconst 0, 1) := dk_3 (dk_at dksX4_layOrders_1 4 rfl rfl)
theorem dX4_layOrders_27 : decode cX4_layOrders 27 = .ok (.putfield 569, 3) := dk_181 2 57 (dk_at dksX4_layOrders_1 5 rfl rfl)
theorem dX4_layOrders_30 : decode cX4_layOrders 30 = .ok (.iconst 0, 1) := dk_3 (dk_at dksX4_layOrders_1 8 rfl rfl)
theorem dX4_layOrders_31 : decode cX4_layOrders 31 = .ok (.istore_n 3, 1) := dk_62 (dk_at dksX4_layOrders_1 9 rfl rfl)
theorem dX4_layOrders_32 : decode cX4_layOrders 32 = .ok (.iload_n 3, 1) := dk_29 (dk_at dksX4_layOrders_1 10 rfl rfl)
theorem dX4_layOrders_33 : decode cX4_layOrders 33 = .ok (.bipush 25, 2) := dk_16 25 (dk_at dksX4_layOrders_1 11 rfl rfl)
theorem dX4_layOrders_35 : decode cX4_layOrders 35 = .ok (.if_icmp .ge 16, 3) := dk_162 0 16 (dk_at dksX4_layOrders_1 13 rfl rfl)
theorem dX4_layOrders_38 : decode cX4_layOrders 38 = .ok (.aload_n 0, 1) := dk_42 (dk_at dksX4_layOrders_1 16 rfl rfl)
theorem dX4_layOrders_39 : decode cX4_layOrders 39 = .ok (.getfield 170, 3) := dk_180 0 170 (dk_at dksX4_layOrders_1 17 rfl rfl)
theorem dX4_layOrders_42 : decode cX4_layOrders 42 = .ok (.iload_n 3, 1) := dk_29 (dk_at dksX4_layOrders_1 20 rfl rfl)
theorem dX4_layOrders_43 : decode cX4_layOrders 43 = .ok (.iconst 0, 1) := dk_3 (dk_at dksX4_layOrders_1 21 rfl rfl)
theorem dX4_layOrders_44 : decode cX4_layOrders 44 = .ok (.iastore, 1) := dk_79 (dk_at dksX4_layOrders_1 22 rfl rfl)
theorem dX4_layOrders_45 : decode cX4_layOrders 45 = .ok (.iinc 3 1, 3) := dk_132 3 1 (dk_at dksX4_layOrders_2 0 rfl rfl)
theorem dX4_layOrders_48 : decode cX4_layOrders 48 = .ok (.goto (-16), 3) := dk_167 255 240 (dk_at dksX4_layOrders_2 3 rfl rfl)
theorem dX4_layOrders_51 : decode cX4_layOrders 51 = .ok (.iconst 0, 1) := dk_3 (dk_at dksX4_layOrders_2 6 rfl rfl)
theorem dX4_layOrders_52 : decode cX4_layOrders 52 = .ok (.istore_n 3, 1) := dk_62 (dk_at dksX4_layOrders_2 7 rfl rfl)
theorem dX4_layOrders_53 : decode cX4_layOrders 53 = .ok (.iload_n 3, 1) := dk_29 (dk_at dksX4_layOrders_2 8 rfl rfl)
theorem dX4_layOrders_54 : decode cX4_layOrders 54 = .ok (.iload_n 2, 1) := dk_28 (dk_at dksX4_layOrders_2 9 rfl rfl)
theorem dX4_layOrders_55 : decode cX4_layOrders 55 = .ok (.if_icmp .ge 77, 3) := dk_162 0 77 (dk_at dksX4_layOrders_2 10 rfl rfl)
theorem dX4_layOrders_58 : decode cX4_layOrders 58 = .ok (.aload_n 0, 1) := dk_42 (dk_at dksX4_layOrders_2 13 rfl rfl)
theorem dX4_layOrders_59 : decode cX4_layOrders 59 = .ok (.iload_n 3, 1) := dk_29 (dk_at dksX4_layOrders_2 14 rfl rfl)
theorem dX4_layOrders_60 : decode cX4_layOrders 60 = .ok (.invokevirtual 572, 3) := dk_182 2 60 (dk_at dksX4_layOrders_2 15 rfl rfl)
theorem dX4_layOrders_63 : decode cX4_layOrders 63 = .ok (.ifCond .eq 63, 3) := dk_153 0 63 (dk_at dksX4_layOrders_2 18 rfl rfl)
theorem dX4_layOrders_66 : decode cX4_layOrders 66 = .ok (.aload_n 0, 1) := dk_42 (dk_at dksX4_layOrders_2 21 rfl rfl)
theorem dX4_layOrders_67 : decode cX4_layOrders 67 = .ok (.iload_n 1, 1) := dk_27 (dk_at dksX4_layOrders_2 22 rfl rfl)
theorem dX4_layOrders_68 : decode cX4_layOrders 68 = .ok (.invokevirtual 575, 3) := dk_182 2 63 (dk_at dksX4_layOrders_3 0 rfl rfl)
theorem dX4_layOrders_71 : decode cX4_layOrders 71 = .ok (.ifCond .ne 6, 3) := dk_154 0 6 (dk_at dksX4_layOrders_3 3 rfl rfl)
theorem dX4_layOrders_74 : decode cX4_layOrders 74 = .ok (.goto 52, 3) := dk_167 0 52 (dk_at dksX4_layOrders_3 6 rfl rfl)
theorem dX4_layOrders_77 : decode cX4_layOrders 77 = .ok (.aload_n 0, 1) := dk_42 (dk_at dksX4_layOrders_3 9 rfl rfl)
theorem dX4_layOrders_78 : decode cX4_layOrders 78 = .ok (.dup, 1) := dk_89 (dk_at dksX4_layOrders_3 10 rfl rfl)
theorem dX4_layOrders_79 : decode cX4_layOrders 79 = .ok (.getfield 569, 3) := dk_180 2 57 (dk_at dksX4_layOrders_3 11 rfl rfl)
theorem dX4_layOrders_82 : decode cX4_layOrders 82 = .ok (.iconst 1, 1) := dk_4 (dk_at dksX4_layOrders_3 14 rfl rfl)
theorem dX4_layOrders_83 : decode cX4_layOrders 83 = .ok (.iadd, 1) := dk_96 (dk_at dksX4_layOrders_3 15 rfl rfl)
theorem dX4_layOrders_84 : decode cX4_layOrders 84 = .ok (.putfield 569, 3) := dk_181 2 57 (dk_at dksX4_layOrders_3 16 rfl rfl)
theorem dX4_layOrders_87 : decode cX4_layOrders 87 = .ok (.iconst 0, 1) := dk_3 (dk_at dksX4_layOrders_3 19 rfl rfl)
theorem dX4_layOrders_88 : decode cX4_layOrders 88 = .ok (.istore 4, 2) := dk_54 4 (dk_at dksX4_layOrders_3 20 rfl rfl)
theorem dX4_layOrders_90 : decode cX4_layOrders 90 = .ok (.iload 4, 2) := dk_21 4 (dk_at dksX4_layOrders_3 22 rfl rfl)
theorem dX4_layOrders_92 : decode cX4_layOrders 92 = .ok (.aload_n 0, 1) := dk_42 (dk_at dksX4_layOrders_4 0 rfl rfl)
theorem dX4_layOrders_93 : decode cX4_layOrders 93 = .ok (.invokevirtual 552, 3) := dk_182 2 40 (dk_at dksX4_layOrders_4 1 rfl rfl)
theorem dX4_layOrders_96 : decode cX4_layOrders 96 = .ok (.if_icmp .ge 30, 3) := dk_162 0 30 (dk_at dksX4_layOrders_4 4 rfl rfl)
theorem dX4_layOrders_99 : decode cX4_layOrders 99 = .ok (.aload_n 0, 1) := dk_42 (dk_at dksX4_layOrders_4 7 rfl rfl)
theorem dX4_layOrders_100 : decode cX4_layOrders 100 = .ok (.getfield 170, 3) := dk_180 0 170 (dk_at dksX4_layOrders_4 8 rfl rfl)
theorem dX4_layOrders_103 : decode cX4_layOrders 103 = .ok (.iconst 5, 1) := dk_8 (dk_at dksX4_layOrders_4 11 rfl rfl)
theorem dX4_layOrders_104 : decode cX4_layOrders 104 = .ok (.iload 4, 2) := dk_21 4 (dk_at dksX4_layOrders_4 12 rfl rfl)
theorem dX4_layOrders_106 : decode cX4_layOrders 106 = .ok (.imul, 1) := dk_104 (dk_at dksX4_layOrders_4 14 rfl rfl)
theorem dX4_layOrders_107 : decode cX4_layOrders 107 = .ok (.aload_n 0, 1) := dk_42 (dk_at dksX4_layOrders_4 15 rfl rfl)
theorem dX4_layOrders_108 : decode cX4_layOrders 108 = .ok (.getfield 167, 3) := dk_180 0 167 (dk_at dksX4_layOrders_4 16 rfl rfl)
theorem dX4_layOrders_111 : decode cX4_layOrders 111 = .ok (.iload 4, 2) := dk_21 4 (dk_at dksX4_layOrders_4 19 rfl rfl)
theorem dX4_layOrders_113 : decode cX4_layOrders 113 = .ok (.iaload, 1) := dk_46 (dk_at dksX4_layOrders_4 21 rfl rfl)
theorem dX4_layOrders_114 : decode cX4_layOrders 114 = .ok (.iadd, 1) := dk_96 (dk_at dksX4_layOrders_4 22 rfl rfl)
theorem dX4_layOrders_115 : decode cX4_layOrders 115 = .ok (.dup2, 1) := dk_92 (dk_at dksX4_layOrders_4 23 rfl rfl)
theorem dX4_layOrders_116 : decode cX4_layOrders 116 = .ok (.iaload, 1) := dk_46 (dk_at dksX4_layOrders_5 0 rfl rfl)
theorem dX4_layOrders_117 : decode cX4_layOrders 117 = .ok (.iconst 1, 1) := dk_4 (dk_at dksX4_layOrders_5 1 rfl rfl)
theorem dX4_layOrders_118 : decode cX4_layOrders 118 = .ok (.iadd, 1) := dk_96 (dk_at dksX4_layOrders_5 2 rfl rfl)
theorem dX4_layOrders_119 : decode cX4_layOrders 119 = .ok (.iastore, 1) := dk_79 (dk_at dksX4_layOrders_5 3 rfl rfl)
theorem dX4_layOrders_120 : decode cX4_layOrders 120 = .ok (.iinc 4 1, 3) := dk_132 4 1 (dk_at dksX4_layOrders_5 4 rfl rfl)
theorem dX4_layOrders_123 : decode cX4_layOrders 123 = .ok (.goto (-33), 3) := dk_167 255 223 (dk_at dksX4_layOrders_5 7 rfl rfl)
theorem dX4_layOrders_126 : decode cX4_layOrders 126 = .ok (.iinc 3 1, 3) := dk_132 3 1 (dk_at dksX4_layOrders_5 10 rfl rfl)
theorem dX4_layOrders_129 : decode cX4_layOrders 129 = .ok (.goto (-76), 3) := dk_167 255 180 (dk_at dksX4_layOrders_5 13 rfl rfl)
theorem dX4_layOrders_132 : decode cX4_layOrders 132 = .ok (.return_, 1) := dk_177 (dk_at dksX4_layOrders_5 16 rfl rfl)
abbrev cX4_layOrder : ByteArray := prog_22_method_116_code
def yX4_layOrder : MethodName := ⟨RX4, "layOrder", "(I)Z"⟩
def dkwX4_layOrder_3 : List UInt8 := [172]
abbrev dktX4_layOrder_3 : List UInt8 := dkwX4_layOrder_3 ++ []
def dkwX4_layOrder_2 : List UInt8 := [153, 0, 5, 3, 172, 29, 4, 42, 180, 0, 167, 21, 4, 46, 120, 128, 62, 132, 4, 1, 167, 255, 196, 4]
abbrev dktX4_layOrder_2 : List UInt8 := dkwX4_layOrder_2 ++ dktX4_layOrder_3
def dkwX4_layOrder_1 : List UInt8 := [182, 2, 40, 112, 79, 28, 42, 182, 2, 40, 108, 61, 29, 42, 180, 0, 167, 21, 4, 46, 184, 1, 203]
abbrev dktX4_layOrder_1 : List UInt8 := dkwX4_layOrder_1 ++ dktX4_layOrder_2
def dkwX4_layOrder_0 : List UInt8 := [27, 61, 3, 62, 3, 54, 4, 21, 4, 42, 182, 2, 40, 162, 0, 57, 42, 180, 0, 167, 21, 4, 28, 42]
abbrev dktX4_layOrder_0 : List UInt8 := dkwX4_layOrder_0 ++ dktX4_layOrder_1
theorem dksX4_layOrder_0 : cX4_layOrder.data.toList.drop 0 = dktX4_layOrder_0 := by decide +kernel
theorem dksX4_layOrder_1 : cX4_layOrder.data.toList.drop 24 = dktX4_layOrder_1 := dk_seg dksX4_layOrder_0 24 rfl rfl
theorem dksX4_layOrder_2 : cX4_layOrder.data.toList.drop 47 = dktX4_layOrder_2 := dk_seg dksX4_layOrder_1 23 rfl rfl
theorem dksX4_layOrder_3 : cX4_layOrder.data.toList.drop 71 = dktX4_layOrder_3 := dk_seg dksX4_layOrder_2 24 rfl rfl
theorem dX4_layOrder_0 : decode cX4_layOrder 0 = .ok (.iload_n 1, 1) := dk_27 (dk_at dksX4_layOrder_0 0 rfl rfl)
theorem dX4_layOrder_1 : decode cX4_layOrder 1 = .ok (.istore_n 2, 1) := dk_61 (dk_at dksX4_layOrder_0 1 rfl rfl)
theorem dX4_layOrder_2 : decode cX4_layOrder 2 = .ok (.iconst 0, 1) := dk_3 (dk_at dksX4_layOrder_0 2 rfl rfl)
theorem dX4_layOrder_3 : decode cX4_layOrder 3 = .ok (.istore_n 3, 1) := dk_62 (dk_at dksX4_layOrder_0 3 rfl rfl)
theorem dX4_layOrder_4 : decode cX4_layOrder 4 = .ok (.iconst 0, 1) := dk_3 (dk_at dksX4_layOrder_0 4 rfl rfl)
theorem dX4_layOrder_5 : decode cX4_layOrder 5 = .ok (.istore 4, 2) := dk_54 4 (dk_at dksX4_layOrder_0 5 rfl rfl)
theorem dX4_layOrder_7 : decode cX4_layOrder 7 = .ok (.iload 4, 2) := dk_21 4 (dk_at dksX4_layOrder_0 7 rfl rfl)
theorem dX4_layOrder_9 : decode cX4_layOrder 9 = .ok (.aload_n 0, 1) := dk_42 (dk_at dksX4_layOrder_0 9 rfl rfl)
theorem dX4_layOrder_10 : decode cX4_layOrder 10 = .ok (.invokevirtual 552, 3) := dk_182 2 40 (dk_at dksX4_layOrder_0 10 rfl rfl)
theorem dX4_layOrder_13 : decode cX4_layOrder 13 = .ok (.if_icmp .ge 57, 3) := dk_162 0 57 (dk_at dksX4_layOrder_0 13 rfl rfl)
theorem dX4_layOrder_16 : decode cX4_layOrder 16 = .ok (.aload_n 0, 1) := dk_42 (dk_at dksX4_layOrder_0 16 rfl rfl)
theorem dX4_layOrder_17 : decode cX4_layOrder 17 = .ok (.getfield 167, 3) := dk_180 0 167 (dk_at dksX4_layOrder_0 17 rfl rfl)
theorem dX4_layOrder_20 : decode cX4_layOrder 20 = .ok (.iload 4, 2) := dk_21 4 (dk_at dksX4_layOrder_0 20 rfl rfl)
theorem dX4_layOrder_22 : decode cX4_layOrder 22 = .ok (.iload_n 2, 1) := dk_28 (dk_at dksX4_layOrder_0 22 rfl rfl)
theorem dX4_layOrder_23 : decode cX4_layOrder 23 = .ok (.aload_n 0, 1) := dk_42 (dk_at dksX4_layOrder_0 23 rfl rfl)
theorem dX4_layOrder_24 : decode cX4_layOrder 24 = .ok (.invokevirtual 552, 3) := dk_182 2 40 (dk_at dksX4_layOrder_1 0 rfl rfl)
theorem dX4_layOrder_27 : decode cX4_layOrder 27 = .ok (.irem, 1) := dk_112 (dk_at dksX4_layOrder_1 3 rfl rfl)
theorem dX4_layOrder_28 : decode cX4_layOrder 28 = .ok (.iastore, 1) := dk_79 (dk_at dksX4_layOrder_1 4 rfl rfl)
theorem dX4_layOrder_29 : decode cX4_layOrder 29 = .ok (.iload_n 2, 1) := dk_28 (dk_at dksX4_layOrder_1 5 rfl rfl)
theorem dX4_layOrder_30 : decode cX4_layOrder 30 = .ok (.aload_n 0, 1) := dk_42 (dk_at dksX4_layOrder_1 6 rfl rfl)
theorem dX4_layOrder_31 : decode cX4_layOrder 31 = .ok (.invokevirtual 552, 3) := dk_182 2 40 (dk_at dksX4_layOrder_1 7 rfl rfl)
theorem dX4_layOrder_34 : decode cX4_layOrder 34 = .ok (.idiv, 1) := dk_108 (dk_at dksX4_layOrder_1 10 rfl rfl)
theorem dX4_layOrder_35 : decode cX4_layOrder 35 = .ok (.istore_n 2, 1) := dk_61 (dk_at dksX4_layOrder_1 11 rfl rfl)
theorem dX4_layOrder_36 : decode cX4_layOrder 36 = .ok (.iload_n 3, 1) := dk_29 (dk_at dksX4_layOrder_1 12 rfl rfl)
theorem dX4_layOrder_37 : decode cX4_layOrder 37 = .ok (.aload_n 0, 1) := dk_42 (dk_at dksX4_layOrder_1 13 rfl rfl)
theorem dX4_layOrder_38 : decode cX4_layOrder 38 = .ok (.getfield 167, 3) := dk_180 0 167 (dk_at dksX4_layOrder_1 14 rfl rfl)
theorem dX4_layOrder_41 : decode cX4_layOrder 41 = .ok (.iload 4, 2) := dk_21 4 (dk_at dksX4_layOrder_1 17 rfl rfl)
theorem dX4_layOrder_43 : decode cX4_layOrder 43 = .ok (.iaload, 1) := dk_46 (dk_at dksX4_layOrder_1 19 rfl rfl)
theorem dX4_layOrder_44 : decode cX4_layOrder 44 = .ok (.invokestatic 459, 3) := dk_184 1 203 (dk_at dksX4_layOrder_1 20 rfl rfl)
theorem dX4_layOrder_47 : decode cX4_layOrder 47 = .ok (.ifCond .eq 5, 3) := dk_153 0 5 (dk_at dksX4_layOrder_2 0 rfl rfl)
theorem dX4_layOrder_50 : decode cX4_layOrder 50 = .ok (.iconst 0, 1) := dk_3 (dk_at dksX4_layOrder_2 3 rfl rfl)
theorem dX4_layOrder_51 : decode cX4_layOrder 51 = .ok (.ireturn, 1) := dk_172 (dk_at dksX4_layOrder_2 4 rfl rfl)
theorem dX4_layOrder_52 : decode cX4_layOrder 52 = .ok (.iload_n 3, 1) := dk_29 (dk_at dksX4_layOrder_2 5 rfl rfl)
theorem dX4_layOrder_53 : decode cX4_layOrder 53 = .ok (.iconst 1, 1) := dk_4 (dk_at dksX4_layOrder_2 6 rfl rfl)
theorem dX4_layOrder_54 : decode cX4_layOrder 54 = .ok (.aload_n 0, 1) := dk_42 (dk_at dksX4_layOrder_2 7 rfl rfl)
theorem dX4_layOrder_55 : decode cX4_layOrder 55 = .ok (.getfield 167, 3) := dk_180 0 167 (dk_at dksX4_layOrder_2 8 rfl rfl)
theorem dX4_layOrder_58 : decode cX4_layOrder 58 = .ok (.iload 4, 2) := dk_21 4 (dk_at dksX4_layOrder_2 11 rfl rfl)
theorem dX4_layOrder_60 : decode cX4_layOrder 60 = .ok (.iaload, 1) := dk_46 (dk_at dksX4_layOrder_2 13 rfl rfl)
theorem dX4_layOrder_61 : decode cX4_layOrder 61 = .ok (.ishl, 1) := dk_120 (dk_at dksX4_layOrder_2 14 rfl rfl)
theorem dX4_layOrder_62 : decode cX4_layOrder 62 = .ok (.ior, 1) := dk_128 (dk_at dksX4_layOrder_2 15 rfl rfl)
theorem dX4_layOrder_63 : decode cX4_layOrder 63 = .ok (.istore_n 3, 1) := dk_62 (dk_at dksX4_layOrder_2 16 rfl rfl)
theorem dX4_layOrder_64 : decode cX4_layOrder 64 = .ok (.iinc 4 1, 3) := dk_132 4 1 (dk_at dksX4_layOrder_2 17 rfl rfl)
theorem dX4_layOrder_67 : decode cX4_layOrder 67 = .ok (.goto (-60), 3) := dk_167 255 196 (dk_at dksX4_layOrder_2 20 rfl rfl)
theorem dX4_layOrder_70 : decode cX4_layOrder 70 = .ok (.iconst 1, 1) := dk_4 (dk_at dksX4_layOrder_2 23 rfl rfl)
theorem dX4_layOrder_71 : decode cX4_layOrder 71 = .ok (.ireturn, 1) := dk_172 (dk_at dksX4_layOrder_3 0 rfl rfl)
abbrev cX4_doesFit : ByteArray := prog_22_method_115_code
def yX4_doesFit : MethodName := ⟨RX4, "doesFit", "(I)Z"⟩
def dkwX4_doesFit_5 : List UInt8 := [167, 255, 141, 4, 172]
abbrev dktX4_doesFit_5 : List UInt8 := dkwX4_doesFit_5 ++ []
def dkwX4_doesFit_4 : List UInt8 := [164, 0, 7, 4, 167, 0, 4, 3, 62, 29, 42, 180, 0, 158, 28, 46, 159, 0, 5, 3, 172, 132, 2, 1]
abbrev dktX4_doesFit_4 : List UInt8 := dkwX4_doesFit_4 ++ dktX4_doesFit_5
def dkwX4_doesFit_3 : List UInt8 := [167, 0, 26, 42, 42, 180, 0, 149, 28, 46, 182, 2, 54, 42, 42, 180, 0, 152, 28, 46, 182, 2, 54]
abbrev dktX4_doesFit_3 : List UInt8 := dkwX4_doesFit_3 ++ dktX4_doesFit_4
def dkwX4_doesFit_2 : List UInt8 := [156, 0, 25, 42, 42, 180, 0, 149, 28, 46, 182, 2, 54, 42, 180, 0, 155, 28, 46, 161, 0, 33]
abbrev dktX4_doesFit_2 : List UInt8 := dkwX4_doesFit_2 ++ dktX4_doesFit_3
def dkwX4_doesFit_1 : List UInt8 := [28, 46, 155, 0, 16, 42, 180, 0, 164, 28, 46, 27, 163, 0, 6, 167, 0, 75, 42, 180, 0, 152, 28, 46]
abbrev dktX4_doesFit_1 : List UInt8 := dkwX4_doesFit_1 ++ dktX4_doesFit_2
def dkwX4_doesFit_0 : List UInt8 := [3, 61, 28, 42, 180, 1, 155, 162, 0, 113, 42, 180, 0, 161, 28, 46, 27, 163, 0, 97, 42, 180, 0, 164]
abbrev dktX4_doesFit_0 : List UInt8 := dkwX4_doesFit_0 ++ dktX4_doesFit_1
theorem dksX4_doesFit_0 : cX4_doesFit.data.toList.drop 0 = dktX4_doesFit_0 := by decide +kernel
theorem dksX4_doesFit_1 : cX4_doesFit.data.toList.drop 24 = dktX4_doesFit_1 := dk_seg dksX4_doesFit_0 24 rfl rfl
theorem dksX4_doesFit_2 : cX4_doesFit.data.toList.drop 48 = dktX4_doesFit_2 := dk_seg dksX4_doesFit_1 24 rfl rfl
theorem dksX4_doesFit_3 : cX4_doesFit.data.toList.drop 70 = dktX4_doesFit_3 := dk_seg dksX4_doesFit_2 22 rfl rfl
theorem dksX4_doesFit_4 : cX4_doesFit.data.toList.drop 93 = dktX4_doesFit_4 := dk_seg dksX4_doesFit_3 23 rfl rfl
theorem dksX4_doesFit_5 : cX4_doesFit.data.toList.drop 117 = dktX4_doesFit_5 := dk_seg dksX4_doesFit_4 24 rfl rfl
theorem dX4_doesFit_0 : decode cX4_doesFit 0 = .ok (.iconst 0, 1) := dk_3 (dk_at dksX4_doesFit_0 0 rfl rfl)
theorem dX4_doesFit_1 : decode cX4_doesFit 1 = .ok (.istore_n 2, 1) := dk_61 (dk_at dksX4_doesFit_0 1 rfl rfl)
theorem dX4_doesFit_2 : decode cX4_doesFit 2 = .ok (.iload_n 2, 1) := dk_28 (dk_at dksX4_doesFit_0 2 rfl rfl)
theorem dX4_doesFit_3 : decode cX4_doesFit 3 = .ok (.aload_n 0, 1) := dk_42 (dk_at dksX4_doesFit_0 3 rfl rfl)
theorem dX4_doesFit_4 : decode cX4_doesFit 4 = .ok (.getfield 411, 3) := dk_180 1 155 (dk_at dksX4_doesFit_0 4 rfl rfl)
theorem dX4_doesFit_7 : decode cX4_doesFit 7 = .ok (.if_icmp .ge 113, 3) := dk_162 0 113 (dk_at dksX4_doesFit_0 7 rfl rfl)
theorem dX4_doesFit_10 : decode cX4_doesFit 10 = .ok (.aload_n 0, 1) := dk_42 (dk_at dksX4_doesFit_0 10 rfl rfl)
theorem dX4_doesFit_11 : decode cX4_doesFit 11 = .ok (.getfield 161, 3) := dk_180 0 161 (dk_at dksX4_doesFit_0 11 rfl rfl)
theorem dX4_doesFit_14 : decode cX4_doesFit 14 = .ok (.iload_n 2, 1) := dk_28 (dk_at dksX4_doesFit_0 14 rfl rfl)
theorem dX4_doesFit_15 : decode cX4_doesFit 15 = .ok (.iaload, 1) := dk_46 (dk_at dksX4_doesFit_0 15 rfl rfl)
theorem dX4_doesFit_16 : decode cX4_doesFit 16 = .ok (.iload_n 1, 1) := dk_27 (dk_at dksX4_doesFit_0 16 rfl rfl)
theorem dX4_doesFit_17 : decode cX4_doesFit 17 = .ok (.if_icmp .gt 97, 3) := dk_163 0 97 (dk_at dksX4_doesFit_0 17 rfl rfl)
theorem dX4_doesFit_20 : decode cX4_doesFit 20 = .ok (.aload_n 0, 1) := dk_42 (dk_at dksX4_doesFit_0 20 rfl rfl)
theorem dX4_doesFit_21 : decode cX4_doesFit 21 = .ok (.getfield 164, 3) := dk_180 0 164 (dk_at dksX4_doesFit_0 21 rfl rfl)
theorem dX4_doesFit_24 : decode cX4_doesFit 24 = .ok (.iload_n 2, 1) := dk_28 (dk_at dksX4_doesFit_1 0 rfl rfl)
theorem dX4_doesFit_25 : decode cX4_doesFit 25 = .ok (.iaload, 1) := dk_46 (dk_at dksX4_doesFit_1 1 rfl rfl)
theorem dX4_doesFit_26 : decode cX4_doesFit 26 = .ok (.ifCond .lt 16, 3) := dk_155 0 16 (dk_at dksX4_doesFit_1 2 rfl rfl)
theorem dX4_doesFit_29 : decode cX4_doesFit 29 = .ok (.aload_n 0, 1) := dk_42 (dk_at dksX4_doesFit_1 5 rfl rfl)
theorem dX4_doesFit_30 : decode cX4_doesFit 30 = .ok (.getfield 164, 3) := dk_180 0 164 (dk_at dksX4_doesFit_1 6 rfl rfl)
theorem dX4_doesFit_33 : decode cX4_doesFit 33 = .ok (.iload_n 2, 1) := dk_28 (dk_at dksX4_doesFit_1 9 rfl rfl)
theorem dX4_doesFit_34 : decode cX4_doesFit 34 = .ok (.iaload, 1) := dk_46 (dk_at dksX4_doesFit_1 10 rfl rfl)
theorem dX4_doesFit_35 : decode cX4_doesFit 35 = .ok (.iload_n 1, 1) := dk_27 (dk_at dksX4_doesFit_1 11 rfl rfl)
theorem dX4_doesFit_36 : decode cX4_doesFit 36 = .ok (.if_icmp .gt 6, 3) := dk_163 0 6 (dk_at dksX4_doesFit_1 12 rfl rfl)
theorem dX4_doesFit_39 : decode cX4_doesFit 39 = .ok (.goto 75, 3) := dk_167 0 75 (dk_at dksX4_doesFit_1 15 rfl rfl)
theorem dX4_doesFit_42 : decode cX4_doesFit 42 = .ok (.aload_n 0, 1) := dk_42 (dk_at dksX4_doesFit_1 18 rfl rfl)
theorem dX4_doesFit_43 : decode cX4_doesFit 43 = .ok (.getfield 152, 3) := dk_180 0 152 (dk_at dksX4_doesFit_1 19 rfl rfl)
theorem dX4_doesFit_46 : decode cX4_doesFit 46 = .ok (.iload_n 2, 1) := dk_28 (dk_at dksX4_doesFit_1 22 rfl rfl)
theorem dX4_doesFit_47 : decode cX4_doesFit 47 = .ok (.iaload, 1) := dk_46 (dk_at dksX4_doesFit_1 23 rfl rfl)
theorem dX4_doesFit_48 : decode cX4_doesFit 48 = .ok (.ifCond .ge 25, 3) := dk_156 0 25 (dk_at dksX4_doesFit_2 0 rfl rfl)
theorem dX4_doesFit_51 : decode cX4_doesFit 51 = .ok (.aload_n 0, 1) := dk_42 (dk_at dksX4_doesFit_2 3 rfl rfl)
theorem dX4_doesFit_52 : decode cX4_doesFit 52 = .ok (.aload_n 0, 1) := dk_42 (dk_at dksX4_doesFit_2 4 rfl rfl)
theorem dX4_doesFit_53 : decode cX4_doesFit 53 = .ok (.getfield 149, 3) := dk_180 0 149 (dk_at dksX4_doesFit_2 5 rfl rfl)
theorem dX4_doesFit_56 : decode cX4_doesFit 56 = .ok (.iload_n 2, 1) := dk_28 (dk_at dksX4_doesFit_2 8 rfl rfl)
theorem dX4_doesFit_57 : decode cX4_doesFit 57 = .ok (.iaload, 1) := dk_46 (dk_at dksX4_doesFit_2 9 rfl rfl)
theorem dX4_doesFit_58 : decode cX4_doesFit 58 = .ok (.invokevirtual 566, 3) := dk_182 2 54 (dk_at dksX4_doesFit_2 10 rfl rfl)
theorem dX4_doesFit_61 : decode cX4_doesFit 61 = .ok (.aload_n 0, 1) := dk_42 (dk_at dksX4_doesFit_2 13 rfl rfl)
theorem dX4_doesFit_62 : decode cX4_doesFit 62 = .ok (.getfield 155, 3) := dk_180 0 155 (dk_at dksX4_doesFit_2 14 rfl rfl)
theorem dX4_doesFit_65 : decode cX4_doesFit 65 = .ok (.iload_n 2, 1) := dk_28 (dk_at dksX4_doesFit_2 17 rfl rfl)
theorem dX4_doesFit_66 : decode cX4_doesFit 66 = .ok (.iaload, 1) := dk_46 (dk_at dksX4_doesFit_2 18 rfl rfl)
theorem dX4_doesFit_67 : decode cX4_doesFit 67 = .ok (.if_icmp .lt 33, 3) := dk_161 0 33 (dk_at dksX4_doesFit_2 19 rfl rfl)
theorem dX4_doesFit_70 : decode cX4_doesFit 70 = .ok (.goto 26, 3) := dk_167 0 26 (dk_at dksX4_doesFit_3 0 rfl rfl)
theorem dX4_doesFit_73 : decode cX4_doesFit 73 = .ok (.aload_n 0, 1) := dk_42 (dk_at dksX4_doesFit_3 3 rfl rfl)
theorem dX4_doesFit_74 : decode cX4_doesFit 74 = .ok (.aload_n 0, 1) := dk_42 (dk_at dksX4_doesFit_3 4 rfl rfl)
theorem dX4_doesFit_75 : decode cX4_doesFit 75 = .ok (.getfield 149, 3) := dk_180 0 149 (dk_at dksX4_doesFit_3 5 rfl rfl)
theorem dX4_doesFit_78 : decode cX4_doesFit 78 = .ok (.iload_n 2, 1) := dk_28 (dk_at dksX4_doesFit_3 8 rfl rfl)
theorem dX4_doesFit_79 : decode cX4_doesFit 79 = .ok (.iaload, 1) := dk_46 (dk_at dksX4_doesFit_3 9 rfl rfl)
theorem dX4_doesFit_80 : decode cX4_doesFit 80 = .ok (.invokevirtual 566, 3) := dk_182 2 54 (dk_at dksX4_doesFit_3 10 rfl rfl)
theorem dX4_doesFit_83 : decode cX4_doesFit 83 = .ok (.aload_n 0, 1) := dk_42 (dk_at dksX4_doesFit_3 13 rfl rfl)
theorem dX4_doesFit_84 : decode cX4_doesFit 84 = .ok (.aload_n 0, 1) := dk_42 (dk_at dksX4_doesFit_3 14 rfl rfl)
theorem dX4_doesFit_85 : decode cX4_doesFit 85 = .ok (.getfield 152, 3) := dk_180 0 152 (dk_at dksX4_doesFit_3 15 rfl rfl)
theorem dX4_doesFit_88 : decode cX4_doesFit 88 = .ok (.iload_n 2, 1) := dk_28 (dk_at dksX4_doesFit_3 18 rfl rfl)
theorem dX4_doesFit_89 : decode cX4_doesFit 89 = .ok (.iaload, 1) := dk_46 (dk_at dksX4_doesFit_3 19 rfl rfl)
theorem dX4_doesFit_90 : decode cX4_doesFit 90 = .ok (.invokevirtual 566, 3) := dk_182 2 54 (dk_at dksX4_doesFit_3 20 rfl rfl)
theorem dX4_doesFit_93 : decode cX4_doesFit 93 = .ok (.if_icmp .le 7, 3) := dk_164 0 7 (dk_at dksX4_doesFit_4 0 rfl rfl)
theorem dX4_doesFit_96 : decode cX4_doesFit 96 = .ok (.iconst 1, 1) := dk_4 (dk_at dksX4_doesFit_4 3 rfl rfl)
theorem dX4_doesFit_97 : decode cX4_doesFit 97 = .ok (.goto 4, 3) := dk_167 0 4 (dk_at dksX4_doesFit_4 4 rfl rfl)
theorem dX4_doesFit_100 : decode cX4_doesFit 100 = .ok (.iconst 0, 1) := dk_3 (dk_at dksX4_doesFit_4 7 rfl rfl)
theorem dX4_doesFit_101 : decode cX4_doesFit 101 = .ok (.istore_n 3, 1) := dk_62 (dk_at dksX4_doesFit_4 8 rfl rfl)
theorem dX4_doesFit_102 : decode cX4_doesFit 102 = .ok (.iload_n 3, 1) := dk_29 (dk_at dksX4_doesFit_4 9 rfl rfl)
theorem dX4_doesFit_103 : decode cX4_doesFit 103 = .ok (.aload_n 0, 1) := dk_42 (dk_at dksX4_doesFit_4 10 rfl rfl)
theorem dX4_doesFit_104 : decode cX4_doesFit 104 = .ok (.getfield 158, 3) := dk_180 0 158 (dk_at dksX4_doesFit_4 11 rfl rfl)
theorem dX4_doesFit_107 : decode cX4_doesFit 107 = .ok (.iload_n 2, 1) := dk_28 (dk_at dksX4_doesFit_4 14 rfl rfl)
theorem dX4_doesFit_108 : decode cX4_doesFit 108 = .ok (.iaload, 1) := dk_46 (dk_at dksX4_doesFit_4 15 rfl rfl)
theorem dX4_doesFit_109 : decode cX4_doesFit 109 = .ok (.if_icmp .eq 5, 3) := dk_159 0 5 (dk_at dksX4_doesFit_4 16 rfl rfl)
theorem dX4_doesFit_112 : decode cX4_doesFit 112 = .ok (.iconst 0, 1) := dk_3 (dk_at dksX4_doesFit_4 19 rfl rfl)
theorem dX4_doesFit_113 : decode cX4_doesFit 113 = .ok (.ireturn, 1) := dk_172 (dk_at dksX4_doesFit_4 20 rfl rfl)
theorem dX4_doesFit_114 : decode cX4_doesFit 114 = .ok (.iinc 2 1, 3) := dk_132 2 1 (dk_at dksX4_doesFit_4 21 rfl rfl)
theorem dX4_doesFit_117 : decode cX4_doesFit 117 = .ok (.goto (-115), 3) := dk_167 255 141 (dk_at dksX4_doesFit_5 0 rfl rfl)
theorem dX4_doesFit_120 : decode cX4_doesFit 120 = .ok (.iconst 1, 1) := dk_4 (dk_at dksX4_doesFit_5 3 rfl rfl)
theorem dX4_doesFit_121 : decode cX4_doesFit 121 = .ok (.ireturn, 1) := dk_172 (dk_at dksX4_doesFit_5 4 rfl rfl)
abbrev cX4_tells : ByteArray := prog_22_method_114_code
def yX4_tells : MethodName := ⟨RX4, "tells", "(I)I"⟩
def dkwX4_tells_0 : List UInt8 := [42, 180, 0, 72, 8, 42, 180, 1, 45, 104, 42, 180, 0, 167, 27, 46, 96, 46, 172]
abbrev dktX4_tells_0 : List UInt8 := dkwX4_tells_0 ++ []
theorem dksX4_tells_0 : cX4_tells.data.toList.drop 0 = dktX4_tells_0 := by decide +kernel
theorem dX4_tells_0 : decode cX4_tells 0 = .ok (.aload_n 0, 1) := dk_42 (dk_at dksX4_tells_0 0 rfl rfl)
theorem dX4_tells_1 : decode cX4_tells 1 = .ok (.getfield 72, 3) := dk_180 0 72 (dk_at dksX4_tells_0 1 rfl rfl)
theorem dX4_tells_4 : decode cX4_tells 4 = .ok (.iconst 5, 1) := dk_8 (dk_at dksX4_tells_0 4 rfl rfl)
theorem dX4_tells_5 : decode cX4_tells 5 = .ok (.aload_n 0, 1) := dk_42 (dk_at dksX4_tells_0 5 rfl rfl)
theorem dX4_tells_6 : decode cX4_tells 6 = .ok (.getfield 301, 3) := dk_180 1 45 (dk_at dksX4_tells_0 6 rfl rfl)
theorem dX4_tells_9 : decode cX4_tells 9 = .ok (.imul, 1) := dk_104 (dk_at dksX4_tells_0 9 rfl rfl)
theorem dX4_tells_10 : decode cX4_tells 10 = .ok (.aload_n 0, 1) := dk_42 (dk_at dksX4_tells_0 10 rfl rfl)
theorem dX4_tells_11 : decode cX4_tells 11 = .ok (.getfield 167, 3) := dk_180 0 167 (dk_at dksX4_tells_0 11 rfl rfl)
theorem dX4_tells_14 : decode cX4_tells 14 = .ok (.iload_n 1, 1) := dk_27 (dk_at dksX4_tells_0 14 rfl rfl)
theorem dX4_tells_15 : decode cX4_tells 15 = .ok (.iaload, 1) := dk_46 (dk_at dksX4_tells_0 15 rfl rfl)
theorem dX4_tells_16 : decode cX4_tells 16 = .ok (.iadd, 1) := dk_96 (dk_at dksX4_tells_0 16 rfl rfl)
theorem dX4_tells_17 : decode cX4_tells 17 = .ok (.iaload, 1) := dk_46 (dk_at dksX4_tells_0 17 rfl rfl)
theorem dX4_tells_18 : decode cX4_tells 18 = .ok (.ireturn, 1) := dk_172 (dk_at dksX4_tells_0 18 rfl rfl)
abbrev cX4_sure : ByteArray := prog_22_method_119_code
def yX4_sure : MethodName := ⟨RX4, "sure", "(II)I"⟩
def dkwX4_sure_2 : List UInt8 := [172, 132, 3, 1, 167, 255, 222, 42, 180, 2, 57, 154, 0, 7, 2, 167, 0, 5, 16, 254, 172]
abbrev dktX4_sure_2 : List UInt8 := dkwX4_sure_2 ++ []
def dkwX4_sure_1 : List UInt8 := [180, 2, 57, 158, 0, 28, 42, 180, 0, 170, 8, 27, 104, 29, 96, 46, 42, 180, 2, 57, 160, 0, 5, 29]
abbrev dktX4_sure_1 : List UInt8 := dkwX4_sure_1 ++ dktX4_sure_2
def dkwX4_sure_0 : List UInt8 := [42, 27, 182, 2, 46, 154, 0, 5, 2, 172, 42, 28, 182, 2, 66, 3, 62, 29, 8, 162, 0, 35, 42]
abbrev dktX4_sure_0 : List UInt8 := dkwX4_sure_0 ++ dktX4_sure_1
theorem dksX4_sure_0 : cX4_sure.data.toList.drop 0 = dktX4_sure_0 := by decide +kernel
theorem dksX4_sure_1 : cX4_sure.data.toList.drop 23 = dktX4_sure_1 := dk_seg dksX4_sure_0 23 rfl rfl
theorem dksX4_sure_2 : cX4_sure.data.toList.drop 47 = dktX4_sure_2 := dk_seg dksX4_sure_1 24 rfl rfl
theorem dX4_sure_0 : decode cX4_sure 0 = .ok (.aload_n 0, 1) := dk_42 (dk_at dksX4_sure_0 0 rfl rfl)
theorem dX4_sure_1 : decode cX4_sure 1 = .ok (.iload_n 1, 1) := dk_27 (dk_at dksX4_sure_0 1 rfl rfl)
theorem dX4_sure_2 : decode cX4_sure 2 = .ok (.invokevirtual 558, 3) := dk_182 2 46 (dk_at dksX4_sure_0 2 rfl rfl)
theorem dX4_sure_5 : decode cX4_sure 5 = .ok (.ifCond .ne 5, 3) := dk_154 0 5 (dk_at dksX4_sure_0 5 rfl rfl)
theorem dX4_sure_8 : decode cX4_sure 8 = .ok (.iconst (-1), 1) := dk_2 (dk_at dksX4_sure_0 8 rfl rfl)
theorem dX4_sure_9 : decode cX4_sure 9 = .ok (.ireturn, 1) := dk_172 (dk_at dksX4_sure_0 9 rfl rfl)
theorem dX4_sure_10 : decode cX4_sure 10 = .ok (.aload_n 0, 1) := dk_42 (dk_at dksX4_sure_0 10 rfl rfl)
theorem dX4_sure_11 : decode cX4_sure 11 = .ok (.iload_n 2, 1) := dk_28 (dk_at dksX4_sure_0 11 rfl rfl)
theorem dX4_sure_12 : decode cX4_sure 12 = .ok (.invokevirtual 578, 3) := dk_182 2 66 (dk_at dksX4_sure_0 12 rfl rfl)
theorem dX4_sure_15 : decode cX4_sure 15 = .ok (.iconst 0, 1) := dk_3 (dk_at dksX4_sure_0 15 rfl rfl)
theorem dX4_sure_16 : decode cX4_sure 16 = .ok (.istore_n 3, 1) := dk_62 (dk_at dksX4_sure_0 16 rfl rfl)
theorem dX4_sure_17 : decode cX4_sure 17 = .ok (.iload_n 3, 1) := dk_29 (dk_at dksX4_sure_0 17 rfl rfl)
theorem dX4_sure_18 : decode cX4_sure 18 = .ok (.iconst 5, 1) := dk_8 (dk_at dksX4_sure_0 18 rfl rfl)
theorem dX4_sure_19 : decode cX4_sure 19 = .ok (.if_icmp .ge 35, 3) := dk_162 0 35 (dk_at dksX4_sure_0 19 rfl rfl)
theorem dX4_sure_22 : decode cX4_sure 22 = .ok (.aload_n 0, 1) := dk_42 (dk_at dksX4_sure_0 22 rfl rfl)
theorem dX4_sure_23 : decode cX4_sure 23 = .ok (.getfield 569, 3) := dk_180 2 57 (dk_at dksX4_sure_1 0 rfl rfl)
theorem dX4_sure_26 : decode cX4_sure 26 = .ok (.ifCond .le 28, 3) := dk_158 0 28 (dk_at dksX4_sure_1 3 rfl rfl)
theorem dX4_sure_29 : decode cX4_sure 29 = .ok (.aload_n 0, 1) := dk_42 (dk_at dksX4_sure_1 6 rfl rfl)
theorem dX4_sure_30 : decode cX4_sure 30 = .ok (.getfield 170, 3) := dk_180 0 170 (dk_at dksX4_sure_1 7 rfl rfl)
theorem dX4_sure_33 : decode cX4_sure 33 = .ok (.iconst 5, 1) := dk_8 (dk_at dksX4_sure_1 10 rfl rfl)
theorem dX4_sure_34 : decode cX4_sure 34 = .ok (.iload_n 1, 1) := dk_27 (dk_at dksX4_sure_1 11 rfl rfl)
theorem dX4_sure_35 : decode cX4_sure 35 = .ok (.imul, 1) := dk_104 (dk_at dksX4_sure_1 12 rfl rfl)
theorem dX4_sure_36 : decode cX4_sure 36 = .ok (.iload_n 3, 1) := dk_29 (dk_at dksX4_sure_1 13 rfl rfl)
theorem dX4_sure_37 : decode cX4_sure 37 = .ok (.iadd, 1) := dk_96 (dk_at dksX4_sure_1 14 rfl rfl)
theorem dX4_sure_38 : decode cX4_sure 38 = .ok (.iaload, 1) := dk_46 (dk_at dksX4_sure_1 15 rfl rfl)
theorem dX4_sure_39 : decode cX4_sure 39 = .ok (.aload_n 0, 1) := dk_42 (dk_at dksX4_sure_1 16 rfl rfl)
theorem dX4_sure_40 : decode cX4_sure 40 = .ok (.getfield 569, 3) := dk_180 2 57 (dk_at dksX4_sure_1 17 rfl rfl)
theorem dX4_sure_43 : decode cX4_sure 43 = .ok (.if_icmp .ne 5, 3) := dk_160 0 5 (dk_at dksX4_sure_1 20 rfl rfl)
theorem dX4_sure_46 : decode cX4_sure 46 = .ok (.iload_n 3, 1) := dk_29 (dk_at dksX4_sure_1 23 rfl rfl)
theorem dX4_sure_47 : decode cX4_sure 47 = .ok (.ireturn, 1) := dk_172 (dk_at dksX4_sure_2 0 rfl rfl)
theorem dX4_sure_48 : decode cX4_sure 48 = .ok (.iinc 3 1, 3) := dk_132 3 1 (dk_at dksX4_sure_2 1 rfl rfl)
theorem dX4_sure_51 : decode cX4_sure 51 = .ok (.goto (-34), 3) := dk_167 255 222 (dk_at dksX4_sure_2 4 rfl rfl)
theorem dX4_sure_54 : decode cX4_sure 54 = .ok (.aload_n 0, 1) := dk_42 (dk_at dksX4_sure_2 7 rfl rfl)
theorem dX4_sure_55 : decode cX4_sure 55 = .ok (.getfield 569, 3) := dk_180 2 57 (dk_at dksX4_sure_2 8 rfl rfl)
theorem dX4_sure_58 : decode cX4_sure 58 = .ok (.ifCond .ne 7, 3) := dk_154 0 7 (dk_at dksX4_sure_2 11 rfl rfl)
theorem dX4_sure_61 : decode cX4_sure 61 = .ok (.iconst (-1), 1) := dk_2 (dk_at dksX4_sure_2 14 rfl rfl)
theorem dX4_sure_62 : decode cX4_sure 62 = .ok (.goto 5, 3) := dk_167 0 5 (dk_at dksX4_sure_2 15 rfl rfl)
theorem dX4_sure_65 : decode cX4_sure 65 = .ok (.bipush (-2), 2) := dk_16 254 (dk_at dksX4_sure_2 18 rfl rfl)
theorem dX4_sure_67 : decode cX4_sure 67 = .ok (.ireturn, 1) := dk_172 (dk_at dksX4_sure_2 20 rfl rfl)
abbrev cX4_ask : ByteArray := prog_22_method_120_code
def yX4_ask : MethodName := ⟨RX4, "ask", "(II)I"⟩
def dkwX4_ask_5 : List UInt8 := [156, 0, 7, 2, 167, 0, 13, 27, 154, 0, 7, 29, 167, 0, 5, 21, 4, 172]
abbrev dktX4_ask_5 : List UInt8 := dkwX4_ask_5 ++ []
def dkwX4_ask_4 : List UInt8 := [21, 6, 21, 4, 161, 0, 6, 167, 0, 10, 21, 5, 62, 21, 6, 54, 4, 132, 5, 1, 167, 255, 167, 29]
abbrev dktX4_ask_4 : List UInt8 := dkwX4_ask_4 ++ dktX4_ask_5
def dkwX4_ask_3 : List UInt8 := [180, 0, 170, 8, 21, 5, 104, 21, 7, 96, 46, 54, 6, 132, 7, 1, 167, 255, 216, 29, 155, 0, 13]
abbrev dktX4_ask_3 : List UInt8 := dkwX4_ask_3 ++ dktX4_ask_4
def dkwX4_ask_2 : List UInt8 := [8, 162, 0, 40, 42, 180, 0, 170, 8, 21, 5, 104, 21, 7, 96, 46, 21, 6, 164, 0, 17, 42]
abbrev dktX4_ask_2 : List UInt8 := dkwX4_ask_2 ++ dktX4_ask_3
def dkwX4_ask_1 : List UInt8 := [21, 5, 42, 182, 2, 40, 162, 0, 86, 42, 180, 2, 57, 158, 0, 79, 3, 54, 6, 3, 54, 7, 21, 7]
abbrev dktX4_ask_1 : List UInt8 := dkwX4_ask_1 ++ dktX4_ask_2
def dkwX4_ask_0 : List UInt8 := [27, 3, 4, 184, 1, 145, 154, 0, 5, 2, 172, 42, 28, 182, 2, 66, 2, 62, 3, 54, 4, 3, 54, 5]
abbrev dktX4_ask_0 : List UInt8 := dkwX4_ask_0 ++ dktX4_ask_1
theorem dksX4_ask_0 : cX4_ask.data.toList.drop 0 = dktX4_ask_0 := by decide +kernel
theorem dksX4_ask_1 : cX4_ask.data.toList.drop 24 = dktX4_ask_1 := dk_seg dksX4_ask_0 24 rfl rfl
theorem dksX4_ask_2 : cX4_ask.data.toList.drop 48 = dktX4_ask_2 := dk_seg dksX4_ask_1 24 rfl rfl
theorem dksX4_ask_3 : cX4_ask.data.toList.drop 70 = dktX4_ask_3 := dk_seg dksX4_ask_2 22 rfl rfl
theorem dksX4_ask_4 : cX4_ask.data.toList.drop 93 = dktX4_ask_4 := dk_seg dksX4_ask_3 23 rfl rfl
theorem dksX4_ask_5 : cX4_ask.data.toList.drop 117 = dktX4_ask_5 := dk_seg dksX4_ask_4 24 rfl rfl
theorem dX4_ask_0 : decode cX4_ask 0 = .ok (.iload_n 1, 1) := dk_27 (dk_at dksX4_ask_0 0 rfl rfl)
theorem dX4_ask_1 : decode cX4_ask 1 = .ok (.iconst 0, 1) := dk_3 (dk_at dksX4_ask_0 1 rfl rfl)
theorem dX4_ask_2 : decode cX4_ask 2 = .ok (.iconst 1, 1) := dk_4 (dk_at dksX4_ask_0 2 rfl rfl)
theorem dX4_ask_3 : decode cX4_ask 3 = .ok (.invokestatic 401, 3) := dk_184 1 145 (dk_at dksX4_ask_0 3 rfl rfl)
theorem dX4_ask_6 : decode cX4_ask 6 = .ok (.ifCond .ne 5, 3) := dk_154 0 5 (dk_at dksX4_ask_0 6 rfl rfl)
theorem dX4_ask_9 : decode cX4_ask 9 = .ok (.iconst (-1), 1) := dk_2 (dk_at dksX4_ask_0 9 rfl rfl)
theorem dX4_ask_10 : decode cX4_ask 10 = .ok (.ireturn, 1) := dk_172 (dk_at dksX4_ask_0 10 rfl rfl)
theorem dX4_ask_11 : decode cX4_ask 11 = .ok (.aload_n 0, 1) := dk_42 (dk_at dksX4_ask_0 11 rfl rfl)
theorem dX4_ask_12 : decode cX4_ask 12 = .ok (.iload_n 2, 1) := dk_28 (dk_at dksX4_ask_0 12 rfl rfl)
theorem dX4_ask_13 : decode cX4_ask 13 = .ok (.invokevirtual 578, 3) := dk_182 2 66 (dk_at dksX4_ask_0 13 rfl rfl)
theorem dX4_ask_16 : decode cX4_ask 16 = .ok (.iconst (-1), 1) := dk_2 (dk_at dksX4_ask_0 16 rfl rfl)
theorem dX4_ask_17 : decode cX4_ask 17 = .ok (.istore_n 3, 1) := dk_62 (dk_at dksX4_ask_0 17 rfl rfl)
theorem dX4_ask_18 : decode cX4_ask 18 = .ok (.iconst 0, 1) := dk_3 (dk_at dksX4_ask_0 18 rfl rfl)
theorem dX4_ask_19 : decode cX4_ask 19 = .ok (.istore 4, 2) := dk_54 4 (dk_at dksX4_ask_0 19 rfl rfl)
theorem dX4_ask_21 : decode cX4_ask 21 = .ok (.iconst 0, 1) := dk_3 (dk_at dksX4_ask_0 21 rfl rfl)
theorem dX4_ask_22 : decode cX4_ask 22 = .ok (.istore 5, 2) := dk_54 5 (dk_at dksX4_ask_0 22 rfl rfl)
theorem dX4_ask_24 : decode cX4_ask 24 = .ok (.iload 5, 2) := dk_21 5 (dk_at dksX4_ask_1 0 rfl rfl)
theorem dX4_ask_26 : decode cX4_ask 26 = .ok (.aload_n 0, 1) := dk_42 (dk_at dksX4_ask_1 2 rfl rfl)
theorem dX4_ask_27 : decode cX4_ask 27 = .ok (.invokevirtual 552, 3) := dk_182 2 40 (dk_at dksX4_ask_1 3 rfl rfl)
theorem dX4_ask_30 : decode cX4_ask 30 = .ok (.if_icmp .ge 86, 3) := dk_162 0 86 (dk_at dksX4_ask_1 6 rfl rfl)
theorem dX4_ask_33 : decode cX4_ask 33 = .ok (.aload_n 0, 1) := dk_42 (dk_at dksX4_ask_1 9 rfl rfl)
theorem dX4_ask_34 : decode cX4_ask 34 = .ok (.getfield 569, 3) := dk_180 2 57 (dk_at dksX4_ask_1 10 rfl rfl)
theorem dX4_ask_37 : decode cX4_ask 37 = .ok (.ifCond .le 79, 3) := dk_158 0 79 (dk_at dksX4_ask_1 13 rfl rfl)
theorem dX4_ask_40 : decode cX4_ask 40 = .ok (.iconst 0, 1) := dk_3 (dk_at dksX4_ask_1 16 rfl rfl)
theorem dX4_ask_41 : decode cX4_ask 41 = .ok (.istore 6, 2) := dk_54 6 (dk_at dksX4_ask_1 17 rfl rfl)
theorem dX4_ask_43 : decode cX4_ask 43 = .ok (.iconst 0, 1) := dk_3 (dk_at dksX4_ask_1 19 rfl rfl)
theorem dX4_ask_44 : decode cX4_ask 44 = .ok (.istore 7, 2) := dk_54 7 (dk_at dksX4_ask_1 20 rfl rfl)
theorem dX4_ask_46 : decode cX4_ask 46 = .ok (.iload 7, 2) := dk_21 7 (dk_at dksX4_ask_1 22 rfl rfl)
theorem dX4_ask_48 : decode cX4_ask 48 = .ok (.iconst 5, 1) := dk_8 (dk_at dksX4_ask_2 0 rfl rfl)
theorem dX4_ask_49 : decode cX4_ask 49 = .ok (.if_icmp .ge 40, 3) := dk_162 0 40 (dk_at dksX4_ask_2 1 rfl rfl)
theorem dX4_ask_52 : decode cX4_ask 52 = .ok (.aload_n 0, 1) := dk_42 (dk_at dksX4_ask_2 4 rfl rfl)
theorem dX4_ask_53 : decode cX4_ask 53 = .ok (.getfield 170, 3) := dk_180 0 170 (dk_at dksX4_ask_2 5 rfl rfl)
theorem dX4_ask_56 : decode cX4_ask 56 = .ok (.iconst 5, 1) := dk_8 (dk_at dksX4_ask_2 8 rfl rfl)
theorem dX4_ask_57 : decode cX4_ask 57 = .ok (.iload 5, 2) := dk_21 5 (dk_at dksX4_ask_2 9 rfl rfl)
theorem dX4_ask_59 : decode cX4_ask 59 = .ok (.imul, 1) := dk_104 (dk_at dksX4_ask_2 11 rfl rfl)
theorem dX4_ask_60 : decode cX4_ask 60 = .ok (.iload 7, 2) := dk_21 7 (dk_at dksX4_ask_2 12 rfl rfl)
theorem dX4_ask_62 : decode cX4_ask 62 = .ok (.iadd, 1) := dk_96 (dk_at dksX4_ask_2 14 rfl rfl)
theorem dX4_ask_63 : decode cX4_ask 63 = .ok (.iaload, 1) := dk_46 (dk_at dksX4_ask_2 15 rfl rfl)
theorem dX4_ask_64 : decode cX4_ask 64 = .ok (.iload 6, 2) := dk_21 6 (dk_at dksX4_ask_2 16 rfl rfl)
theorem dX4_ask_66 : decode cX4_ask 66 = .ok (.if_icmp .le 17, 3) := dk_164 0 17 (dk_at dksX4_ask_2 18 rfl rfl)
theorem dX4_ask_69 : decode cX4_ask 69 = .ok (.aload_n 0, 1) := dk_42 (dk_at dksX4_ask_2 21 rfl rfl)
theorem dX4_ask_70 : decode cX4_ask 70 = .ok (.getfield 170, 3) := dk_180 0 170 (dk_at dksX4_ask_3 0 rfl rfl)
theorem dX4_ask_73 : decode cX4_ask 73 = .ok (.iconst 5, 1) := dk_8 (dk_at dksX4_ask_3 3 rfl rfl)
theorem dX4_ask_74 : decode cX4_ask 74 = .ok (.iload 5, 2) := dk_21 5 (dk_at dksX4_ask_3 4 rfl rfl)
theorem dX4_ask_76 : decode cX4_ask 76 = .ok (.imul, 1) := dk_104 (dk_at dksX4_ask_3 6 rfl rfl)
theorem dX4_ask_77 : decode cX4_ask 77 = .ok (.iload 7, 2) := dk_21 7 (dk_at dksX4_ask_3 7 rfl rfl)
theorem dX4_ask_79 : decode cX4_ask 79 = .ok (.iadd, 1) := dk_96 (dk_at dksX4_ask_3 9 rfl rfl)
theorem dX4_ask_80 : decode cX4_ask 80 = .ok (.iaload, 1) := dk_46 (dk_at dksX4_ask_3 10 rfl rfl)
theorem dX4_ask_81 : decode cX4_ask 81 = .ok (.istore 6, 2) := dk_54 6 (dk_at dksX4_ask_3 11 rfl rfl)
theorem dX4_ask_83 : decode cX4_ask 83 = .ok (.iinc 7 1, 3) := dk_132 7 1 (dk_at dksX4_ask_3 13 rfl rfl)
theorem dX4_ask_86 : decode cX4_ask 86 = .ok (.goto (-40), 3) := dk_167 255 216 (dk_at dksX4_ask_3 16 rfl rfl)
theorem dX4_ask_89 : decode cX4_ask 89 = .ok (.iload_n 3, 1) := dk_29 (dk_at dksX4_ask_3 19 rfl rfl)
theorem dX4_ask_90 : decode cX4_ask 90 = .ok (.ifCond .lt 13, 3) := dk_155 0 13 (dk_at dksX4_ask_3 20 rfl rfl)
theorem dX4_ask_93 : decode cX4_ask 93 = .ok (.iload 6, 2) := dk_21 6 (dk_at dksX4_ask_4 0 rfl rfl)
theorem dX4_ask_95 : decode cX4_ask 95 = .ok (.iload 4, 2) := dk_21 4 (dk_at dksX4_ask_4 2 rfl rfl)
theorem dX4_ask_97 : decode cX4_ask 97 = .ok (.if_icmp .lt 6, 3) := dk_161 0 6 (dk_at dksX4_ask_4 4 rfl rfl)
theorem dX4_ask_100 : decode cX4_ask 100 = .ok (.goto 10, 3) := dk_167 0 10 (dk_at dksX4_ask_4 7 rfl rfl)
theorem dX4_ask_103 : decode cX4_ask 103 = .ok (.iload 5, 2) := dk_21 5 (dk_at dksX4_ask_4 10 rfl rfl)
theorem dX4_ask_105 : decode cX4_ask 105 = .ok (.istore_n 3, 1) := dk_62 (dk_at dksX4_ask_4 12 rfl rfl)
theorem dX4_ask_106 : decode cX4_ask 106 = .ok (.iload 6, 2) := dk_21 6 (dk_at dksX4_ask_4 13 rfl rfl)
theorem dX4_ask_108 : decode cX4_ask 108 = .ok (.istore 4, 2) := dk_54 4 (dk_at dksX4_ask_4 15 rfl rfl)
theorem dX4_ask_110 : decode cX4_ask 110 = .ok (.iinc 5 1, 3) := dk_132 5 1 (dk_at dksX4_ask_4 17 rfl rfl)
theorem dX4_ask_113 : decode cX4_ask 113 = .ok (.goto (-89), 3) := dk_167 255 167 (dk_at dksX4_ask_4 20 rfl rfl)
theorem dX4_ask_116 : decode cX4_ask 116 = .ok (.iload_n 3, 1) := dk_29 (dk_at dksX4_ask_4 23 rfl rfl)
theorem dX4_ask_117 : decode cX4_ask 117 = .ok (.ifCond .ge 7, 3) := dk_156 0 7 (dk_at dksX4_ask_5 0 rfl rfl)
theorem dX4_ask_120 : decode cX4_ask 120 = .ok (.iconst (-1), 1) := dk_2 (dk_at dksX4_ask_5 3 rfl rfl)
theorem dX4_ask_121 : decode cX4_ask 121 = .ok (.goto 13, 3) := dk_167 0 13 (dk_at dksX4_ask_5 4 rfl rfl)
theorem dX4_ask_124 : decode cX4_ask 124 = .ok (.iload_n 1, 1) := dk_27 (dk_at dksX4_ask_5 7 rfl rfl)
theorem dX4_ask_125 : decode cX4_ask 125 = .ok (.ifCond .ne 7, 3) := dk_154 0 7 (dk_at dksX4_ask_5 8 rfl rfl)
theorem dX4_ask_128 : decode cX4_ask 128 = .ok (.iload_n 3, 1) := dk_29 (dk_at dksX4_ask_5 11 rfl rfl)
theorem dX4_ask_129 : decode cX4_ask 129 = .ok (.goto 5, 3) := dk_167 0 5 (dk_at dksX4_ask_5 12 rfl rfl)
theorem dX4_ask_132 : decode cX4_ask 132 = .ok (.iload 4, 2) := dk_21 4 (dk_at dksX4_ask_5 15 rfl rfl)
theorem dX4_ask_134 : decode cX4_ask 134 = .ok (.ireturn, 1) := dk_172 (dk_at dksX4_ask_5 17 rfl rfl)
abbrev cX4_image : ByteArray := prog_22_method_121_code
def yX4_image : MethodName := ⟨RX4, "image", "(I)I"⟩
def dkwX4_image_2 : List UInt8 := [4, 84, 42, 180, 0, 113, 16, 40, 46, 172]
abbrev dktX4_image_2 : List UInt8 := dkwX4_image_2 ++ []
def dkwX4_image_1 : List UInt8 := [16, 42, 27, 104, 28, 96, 42, 180, 0, 113, 28, 46, 79, 132, 2, 1, 167, 255, 230, 42, 180, 0, 176, 27]
abbrev dktX4_image_1 : List UInt8 := dkwX4_image_1 ++ dktX4_image_2
def dkwX4_image_0 : List UInt8 := [27, 3, 5, 184, 1, 145, 154, 0, 5, 2, 172, 3, 61, 28, 16, 42, 162, 0, 26, 42, 180, 0, 173]
abbrev dktX4_image_0 : List UInt8 := dkwX4_image_0 ++ dktX4_image_1
theorem dksX4_image_0 : cX4_image.data.toList.drop 0 = dktX4_image_0 := by decide +kernel
theorem dksX4_image_1 : cX4_image.data.toList.drop 23 = dktX4_image_1 := dk_seg dksX4_image_0 23 rfl rfl
theorem dksX4_image_2 : cX4_image.data.toList.drop 47 = dktX4_image_2 := dk_seg dksX4_image_1 24 rfl rfl
theorem dX4_image_0 : decode cX4_image 0 = .ok (.iload_n 1, 1) := dk_27 (dk_at dksX4_image_0 0 rfl rfl)
theorem dX4_image_1 : decode cX4_image 1 = .ok (.iconst 0, 1) := dk_3 (dk_at dksX4_image_0 1 rfl rfl)
theorem dX4_image_2 : decode cX4_image 2 = .ok (.iconst 2, 1) := dk_5 (dk_at dksX4_image_0 2 rfl rfl)
theorem dX4_image_3 : decode cX4_image 3 = .ok (.invokestatic 401, 3) := dk_184 1 145 (dk_at dksX4_image_0 3 rfl rfl)
theorem dX4_image_6 : decode cX4_image 6 = .ok (.ifCond .ne 5, 3) := dk_154 0 5 (dk_at dksX4_image_0 6 rfl rfl)
theorem dX4_image_9 : decode cX4_image 9 = .ok (.iconst (-1), 1) := dk_2 (dk_at dksX4_image_0 9 rfl rfl)
theorem dX4_image_10 : decode cX4_image 10 = .ok (.ireturn, 1) := dk_172 (dk_at dksX4_image_0 10 rfl rfl)
theorem dX4_image_11 : decode cX4_image 11 = .ok (.iconst 0, 1) := dk_3 (dk_at dksX4_image_0 11 rfl rfl)
theorem dX4_image_12 : decode cX4_image 12 = .ok (.istore_n 2, 1) := dk_61 (dk_at dksX4_image_0 12 rfl rfl)
theorem dX4_image_13 : decode cX4_image 13 = .ok (.iload_n 2, 1) := dk_28 (dk_at dksX4_image_0 13 rfl rfl)
theorem dX4_image_14 : decode cX4_image 14 = .ok (.bipush 42, 2) := dk_16 42 (dk_at dksX4_image_0 14 rfl rfl)
theorem dX4_image_16 : decode cX4_image 16 = .ok (.if_icmp .ge 26, 3) := dk_162 0 26 (dk_at dksX4_image_0 16 rfl rfl)
theorem dX4_image_19 : decode cX4_image 19 = .ok (.aload_n 0, 1) := dk_42 (dk_at dksX4_image_0 19 rfl rfl)
theorem dX4_image_20 : decode cX4_image 20 = .ok (.getfield 173, 3) := dk_180 0 173 (dk_at dksX4_image_0 20 rfl rfl)
theorem dX4_image_23 : decode cX4_image 23 = .ok (.bipush 42, 2) := dk_16 42 (dk_at dksX4_image_1 0 rfl rfl)
theorem dX4_image_25 : decode cX4_image 25 = .ok (.iload_n 1, 1) := dk_27 (dk_at dksX4_image_1 2 rfl rfl)
theorem dX4_image_26 : decode cX4_image 26 = .ok (.imul, 1) := dk_104 (dk_at dksX4_image_1 3 rfl rfl)
theorem dX4_image_27 : decode cX4_image 27 = .ok (.iload_n 2, 1) := dk_28 (dk_at dksX4_image_1 4 rfl rfl)
theorem dX4_image_28 : decode cX4_image 28 = .ok (.iadd, 1) := dk_96 (dk_at dksX4_image_1 5 rfl rfl)
theorem dX4_image_29 : decode cX4_image 29 = .ok (.aload_n 0, 1) := dk_42 (dk_at dksX4_image_1 6 rfl rfl)
theorem dX4_image_30 : decode cX4_image 30 = .ok (.getfield 113, 3) := dk_180 0 113 (dk_at dksX4_image_1 7 rfl rfl)
theorem dX4_image_33 : decode cX4_image 33 = .ok (.iload_n 2, 1) := dk_28 (dk_at dksX4_image_1 10 rfl rfl)
theorem dX4_image_34 : decode cX4_image 34 = .ok (.iaload, 1) := dk_46 (dk_at dksX4_image_1 11 rfl rfl)
theorem dX4_image_35 : decode cX4_image 35 = .ok (.iastore, 1) := dk_79 (dk_at dksX4_image_1 12 rfl rfl)
theorem dX4_image_36 : decode cX4_image 36 = .ok (.iinc 2 1, 3) := dk_132 2 1 (dk_at dksX4_image_1 13 rfl rfl)
theorem dX4_image_39 : decode cX4_image 39 = .ok (.goto (-26), 3) := dk_167 255 230 (dk_at dksX4_image_1 16 rfl rfl)
theorem dX4_image_42 : decode cX4_image 42 = .ok (.aload_n 0, 1) := dk_42 (dk_at dksX4_image_1 19 rfl rfl)
theorem dX4_image_43 : decode cX4_image 43 = .ok (.getfield 176, 3) := dk_180 0 176 (dk_at dksX4_image_1 20 rfl rfl)
theorem dX4_image_46 : decode cX4_image 46 = .ok (.iload_n 1, 1) := dk_27 (dk_at dksX4_image_1 23 rfl rfl)
theorem dX4_image_47 : decode cX4_image 47 = .ok (.iconst 1, 1) := dk_4 (dk_at dksX4_image_2 0 rfl rfl)
theorem dX4_image_48 : decode cX4_image 48 = .ok (.bastore, 1) := dk_84 (dk_at dksX4_image_2 1 rfl rfl)
theorem dX4_image_49 : decode cX4_image 49 = .ok (.aload_n 0, 1) := dk_42 (dk_at dksX4_image_2 2 rfl rfl)
theorem dX4_image_50 : decode cX4_image 50 = .ok (.getfield 113, 3) := dk_180 0 113 (dk_at dksX4_image_2 3 rfl rfl)
theorem dX4_image_53 : decode cX4_image 53 = .ok (.bipush 40, 2) := dk_16 40 (dk_at dksX4_image_2 6 rfl rfl)
theorem dX4_image_55 : decode cX4_image 55 = .ok (.iaload, 1) := dk_46 (dk_at dksX4_image_2 8 rfl rfl)
theorem dX4_image_56 : decode cX4_image 56 = .ok (.ireturn, 1) := dk_172 (dk_at dksX4_image_2 9 rfl rfl)
abbrev cX4_back : ByteArray := prog_22_method_122_code
def yX4_back : MethodName := ⟨RX4, "back", "(I)I"⟩
def dkwX4_back_2 : List UInt8 := [132, 2, 1, 167, 255, 230, 42, 3, 181, 1, 149, 42, 3, 181, 1, 152, 42, 180, 0, 113, 16, 40, 46, 172]
abbrev dktX4_back_2 : List UInt8 := dkwX4_back_2 ++ []
def dkwX4_back_1 : List UInt8 := [16, 42, 162, 0, 26, 42, 180, 0, 113, 28, 42, 180, 0, 173, 16, 42, 27, 104, 28, 96, 46, 79]
abbrev dktX4_back_1 : List UInt8 := dkwX4_back_1 ++ dktX4_back_2
def dkwX4_back_0 : List UInt8 := [27, 3, 5, 184, 1, 145, 153, 0, 12, 42, 180, 0, 176, 27, 51, 154, 0, 5, 2, 172, 3, 61, 28]
abbrev dktX4_back_0 : List UInt8 := dkwX4_back_0 ++ dktX4_back_1
theorem dksX4_back_0 : cX4_back.data.toList.drop 0 = dktX4_back_0 := by decide +kernel
theorem dksX4_back_1 : cX4_back.data.toList.drop 23 = dktX4_back_1 := dk_seg dksX4_back_0 23 rfl rfl
theorem dksX4_back_2 : cX4_back.data.toList.drop 45 = dktX4_back_2 := dk_seg dksX4_back_1 22 rfl rfl
theorem dX4_back_0 : decode cX4_back 0 = .ok (.iload_n 1, 1) := dk_27 (dk_at dksX4_back_0 0 rfl rfl)
theorem dX4_back_1 : decode cX4_back 1 = .ok (.iconst 0, 1) := dk_3 (dk_at dksX4_back_0 1 rfl rfl)
theorem dX4_back_2 : decode cX4_back 2 = .ok (.iconst 2, 1) := dk_5 (dk_at dksX4_back_0 2 rfl rfl)
theorem dX4_back_3 : decode cX4_back 3 = .ok (.invokestatic 401, 3) := dk_184 1 145 (dk_at dksX4_back_0 3 rfl rfl)
theorem dX4_back_6 : decode cX4_back 6 = .ok (.ifCond .eq 12, 3) := dk_153 0 12 (dk_at dksX4_back_0 6 rfl rfl)
theorem dX4_back_9 : decode cX4_back 9 = .ok (.aload_n 0, 1) := dk_42 (dk_at dksX4_back_0 9 rfl rfl)
theorem dX4_back_10 : decode cX4_back 10 = .ok (.getfield 176, 3) := dk_180 0 176 (dk_at dksX4_back_0 10 rfl rfl)
theorem dX4_back_13 : decode cX4_back 13 = .ok (.iload_n 1, 1) := dk_27 (dk_at dksX4_back_0 13 rfl rfl)
theorem dX4_back_14 : decode cX4_back 14 = .ok (.baload, 1) := dk_51 (dk_at dksX4_back_0 14 rfl rfl)
theorem dX4_back_15 : decode cX4_back 15 = .ok (.ifCond .ne 5, 3) := dk_154 0 5 (dk_at dksX4_back_0 15 rfl rfl)
theorem dX4_back_18 : decode cX4_back 18 = .ok (.iconst (-1), 1) := dk_2 (dk_at dksX4_back_0 18 rfl rfl)
theorem dX4_back_19 : decode cX4_back 19 = .ok (.ireturn, 1) := dk_172 (dk_at dksX4_back_0 19 rfl rfl)
theorem dX4_back_20 : decode cX4_back 20 = .ok (.iconst 0, 1) := dk_3 (dk_at dksX4_back_0 20 rfl rfl)
theorem dX4_back_21 : decode cX4_back 21 = .ok (.istore_n 2, 1) := dk_61 (dk_at dksX4_back_0 21 rfl rfl)
theorem dX4_back_22 : decode cX4_back 22 = .ok (.iload_n 2, 1) := dk_28 (dk_at dksX4_back_0 22 rfl rfl)
theorem dX4_back_23 : decode cX4_back 23 = .ok (.bipush 42, 2) := dk_16 42 (dk_at dksX4_back_1 0 rfl rfl)
theorem dX4_back_25 : decode cX4_back 25 = .ok (.if_icmp .ge 26, 3) := dk_162 0 26 (dk_at dksX4_back_1 2 rfl rfl)
theorem dX4_back_28 : decode cX4_back 28 = .ok (.aload_n 0, 1) := dk_42 (dk_at dksX4_back_1 5 rfl rfl)
theorem dX4_back_29 : decode cX4_back 29 = .ok (.getfield 113, 3) := dk_180 0 113 (dk_at dksX4_back_1 6 rfl rfl)
theorem dX4_back_32 : decode cX4_back 32 = .ok (.iload_n 2, 1) := dk_28 (dk_at dksX4_back_1 9 rfl rfl)
theorem dX4_back_33 : decode cX4_back 33 = .ok (.aload_n 0, 1) := dk_42 (dk_at dksX4_back_1 10 rfl rfl)
theorem dX4_back_34 : decode cX4_back 34 = .ok (.getfield 173, 3) := dk_180 0 173 (dk_at dksX4_back_1 11 rfl rfl)
theorem dX4_back_37 : decode cX4_back 37 = .ok (.bipush 42, 2) := dk_16 42 (dk_at dksX4_back_1 14 rfl rfl)
theorem dX4_back_39 : decode cX4_back 39 = .ok (.iload_n 1, 1) := dk_27 (dk_at dksX4_back_1 16 rfl rfl)
theorem dX4_back_40 : decode cX4_back 40 = .ok (.imul, 1) := dk_104 (dk_at dksX4_back_1 17 rfl rfl)
theorem dX4_back_41 : decode cX4_back 41 = .ok (.iload_n 2, 1) := dk_28 (dk_at dksX4_back_1 18 rfl rfl)
theorem dX4_back_42 : decode cX4_back 42 = .ok (.iadd, 1) := dk_96 (dk_at dksX4_back_1 19 rfl rfl)
theorem dX4_back_43 : decode cX4_back 43 = .ok (.iaload, 1) := dk_46 (dk_at dksX4_back_1 20 rfl rfl)
theorem dX4_back_44 : decode cX4_back 44 = .ok (.iastore, 1) := dk_79 (dk_at dksX4_back_1 21 rfl rfl)
theorem dX4_back_45 : decode cX4_back 45 = .ok (.iinc 2 1, 3) := dk_132 2 1 (dk_at dksX4_back_2 0 rfl rfl)
theorem dX4_back_48 : decode cX4_back 48 = .ok (.goto (-26), 3) := dk_167 255 230 (dk_at dksX4_back_2 3 rfl rfl)
theorem dX4_back_51 : decode cX4_back 51 = .ok (.aload_n 0, 1) := dk_42 (dk_at dksX4_back_2 6 rfl rfl)
theorem dX4_back_52 : decode cX4_back 52 = .ok (.iconst 0, 1) := dk_3 (dk_at dksX4_back_2 7 rfl rfl)
theorem dX4_back_53 : decode cX4_back 53 = .ok (.putfield 405, 3) := dk_181 1 149 (dk_at dksX4_back_2 8 rfl rfl)
theorem dX4_back_56 : decode cX4_back 56 = .ok (.aload_n 0, 1) := dk_42 (dk_at dksX4_back_2 11 rfl rfl)
theorem dX4_back_57 : decode cX4_back 57 = .ok (.iconst 0, 1) := dk_3 (dk_at dksX4_back_2 12 rfl rfl)
theorem dX4_back_58 : decode cX4_back 58 = .ok (.putfield 408, 3) := dk_181 1 152 (dk_at dksX4_back_2 13 rfl rfl)
theorem dX4_back_61 : decode cX4_back 61 = .ok (.aload_n 0, 1) := dk_42 (dk_at dksX4_back_2 16 rfl rfl)
theorem dX4_back_62 : decode cX4_back 62 = .ok (.getfield 113, 3) := dk_180 0 113 (dk_at dksX4_back_2 17 rfl rfl)
theorem dX4_back_65 : decode cX4_back 65 = .ok (.bipush 40, 2) := dk_16 40 (dk_at dksX4_back_2 20 rfl rfl)
theorem dX4_back_67 : decode cX4_back 67 = .ok (.iaload, 1) := dk_46 (dk_at dksX4_back_2 22 rfl rfl)
theorem dX4_back_68 : decode cX4_back 68 = .ok (.ireturn, 1) := dk_172 (dk_at dksX4_back_2 23 rfl rfl)
abbrev cX4_about : ByteArray := prog_22_method_123_code
def yX4_about : MethodName := ⟨RX4, "about", "(I)I"⟩
def dkwX4_about_6 : List UInt8 := [172, 42, 180, 1, 158, 172, 2, 172]
abbrev dktX4_about_6 : List UInt8 := dkwX4_about_6 ++ []
def dkwX4_about_5 : List UInt8 := [42, 180, 1, 155, 172, 42, 180, 2, 43, 172, 42, 180, 1, 42, 172, 42, 180, 0, 33, 42, 180, 1, 45, 46]
abbrev dktX4_about_5 : List UInt8 := dkwX4_about_5 ++ dktX4_about_6
def dkwX4_about_4 : List UInt8 := [16, 41, 46, 172, 42, 180, 0, 36, 42, 180, 1, 45, 46, 172, 42, 180, 1, 149, 172, 42, 180, 1, 152, 172]
abbrev dktX4_about_4 : List UInt8 := dkwX4_about_4 ++ dktX4_about_5
def dkwX4_about_3 : List UInt8 := [172, 42, 180, 0, 30, 42, 180, 1, 45, 46, 172, 42, 180, 0, 113, 16, 40, 46, 172, 42, 180, 0, 113]
abbrev dktX4_about_3 : List UInt8 := dkwX4_about_3 ++ dktX4_about_4
def dkwX4_about_2 : List UInt8 := [42, 182, 1, 142, 172, 42, 180, 0, 20, 42, 180, 1, 45, 46, 172, 42, 180, 0, 27, 42, 180, 1, 45, 46]
abbrev dktX4_about_2 : List UInt8 := dkwX4_about_2 ++ dktX4_about_3
def dkwX4_about_1 : List UInt8 := [170, 0, 0, 0, 0, 0, 172, 0, 0, 0, 0, 0, 0, 0, 13, 0, 0, 0, 71, 0, 0, 0, 76, 0, 0, 0, 86, 0, 0, 0, 96, 0, 0, 0, 106, 0, 0, 0, 114, 0, 0, 0, 122, 0, 0, 0, 132, 0, 0, 0, 137, 0, 0, 0, 142, 0, 0, 0, 147, 0, 0, 0, 152, 0, 0, 0, 157, 0, 0, 0, 167]
abbrev dktX4_about_1 : List UInt8 := dkwX4_about_1 ++ dktX4_about_2
def dkwX4_about_0 : List UInt8 := [27]
abbrev dktX4_about_0 : List UInt8 := dkwX4_about_0 ++ dktX4_about_1
theorem dksX4_about_0 : cX4_about.data.toList.drop 0 = dktX4_about_0 := by decide +kernel
theorem dksX4_about_1 : cX4_about.data.toList.drop 1 = dktX4_about_1 := dk_seg dksX4_about_0 1 rfl rfl
theorem dksX4_about_2 : cX4_about.data.toList.drop 72 = dktX4_about_2 := dk_seg dksX4_about_1 71 rfl rfl
theorem dksX4_about_3 : cX4_about.data.toList.drop 96 = dktX4_about_3 := dk_seg dksX4_about_2 24 rfl rfl
theorem dksX4_about_4 : cX4_about.data.toList.drop 119 = dktX4_about_4 := dk_seg dksX4_about_3 23 rfl rfl
theorem dksX4_about_5 : cX4_about.data.toList.drop 143 = dktX4_about_5 := dk_seg dksX4_about_4 24 rfl rfl
theorem dksX4_about_6 : cX4_about.data.toList.drop 167 = dktX4_about_6 := dk_seg dksX4_about_5 24 rfl rfl
theorem dX4_about_0 : decode cX4_about 0 = .ok (.iload_n 1, 1) := dk_27 (dk_at dksX4_about_0 0 rfl rfl)
theorem dX4_about_1 : decode cX4_about 1 = .ok (.tableswitch 172 0 13 #[71, 76, 86, 96, 106, 114, 122, 132, 137, 142, 147, 152, 157, 167], 71) := by decide +kernel
theorem dX4_about_72 : decode cX4_about 72 = .ok (.aload_n 0, 1) := dk_42 (dk_at dksX4_about_2 0 rfl rfl)
theorem dX4_about_73 : decode cX4_about 73 = .ok (.invokevirtual 398, 3) := dk_182 1 142 (dk_at dksX4_about_2 1 rfl rfl)
theorem dX4_about_76 : decode cX4_about 76 = .ok (.ireturn, 1) := dk_172 (dk_at dksX4_about_2 4 rfl rfl)
theorem dX4_about_77 : decode cX4_about 77 = .ok (.aload_n 0, 1) := dk_42 (dk_at dksX4_about_2 5 rfl rfl)
theorem dX4_about_78 : decode cX4_about 78 = .ok (.getfield 20, 3) := dk_180 0 20 (dk_at dksX4_about_2 6 rfl rfl)
theorem dX4_about_81 : decode cX4_about 81 = .ok (.aload_n 0, 1) := dk_42 (dk_at dksX4_about_2 9 rfl rfl)
theorem dX4_about_82 : decode cX4_about 82 = .ok (.getfield 301, 3) := dk_180 1 45 (dk_at dksX4_about_2 10 rfl rfl)
theorem dX4_about_85 : decode cX4_about 85 = .ok (.iaload, 1) := dk_46 (dk_at dksX4_about_2 13 rfl rfl)
theorem dX4_about_86 : decode cX4_about 86 = .ok (.ireturn, 1) := dk_172 (dk_at dksX4_about_2 14 rfl rfl)
theorem dX4_about_87 : decode cX4_about 87 = .ok (.aload_n 0, 1) := dk_42 (dk_at dksX4_about_2 15 rfl rfl)
theorem dX4_about_88 : decode cX4_about 88 = .ok (.getfield 27, 3) := dk_180 0 27 (dk_at dksX4_about_2 16 rfl rfl)
theorem dX4_about_91 : decode cX4_about 91 = .ok (.aload_n 0, 1) := dk_42 (dk_at dksX4_about_2 19 rfl rfl)
theorem dX4_about_92 : decode cX4_about 92 = .ok (.getfield 301, 3) := dk_180 1 45 (dk_at dksX4_about_2 20 rfl rfl)
theorem dX4_about_95 : decode cX4_about 95 = .ok (.iaload, 1) := dk_46 (dk_at dksX4_about_2 23 rfl rfl)
theorem dX4_about_96 : decode cX4_about 96 = .ok (.ireturn, 1) := dk_172 (dk_at dksX4_about_3 0 rfl rfl)
theorem dX4_about_97 : decode cX4_about 97 = .ok (.aload_n 0, 1) := dk_42 (dk_at dksX4_about_3 1 rfl rfl)
theorem dX4_about_98 : decode cX4_about 98 = .ok (.getfield 30, 3) := dk_180 0 30 (dk_at dksX4_about_3 2 rfl rfl)
theorem dX4_about_101 : decode cX4_about 101 = .ok (.aload_n 0, 1) := dk_42 (dk_at dksX4_about_3 5 rfl rfl)
theorem dX4_about_102 : decode cX4_about 102 = .ok (.getfield 301, 3) := dk_180 1 45 (dk_at dksX4_about_3 6 rfl rfl)
theorem dX4_about_105 : decode cX4_about 105 = .ok (.iaload, 1) := dk_46 (dk_at dksX4_about_3 9 rfl rfl)
theorem dX4_about_106 : decode cX4_about 106 = .ok (.ireturn, 1) := dk_172 (dk_at dksX4_about_3 10 rfl rfl)
theorem dX4_about_107 : decode cX4_about 107 = .ok (.aload_n 0, 1) := dk_42 (dk_at dksX4_about_3 11 rfl rfl)
theorem dX4_about_108 : decode cX4_about 108 = .ok (.getfield 113, 3) := dk_180 0 113 (dk_at dksX4_about_3 12 rfl rfl)
theorem dX4_about_111 : decode cX4_about 111 = .ok (.bipush 40, 2) := dk_16 40 (dk_at dksX4_about_3 15 rfl rfl)
theorem dX4_about_113 : decode cX4_about 113 = .ok (.iaload, 1) := dk_46 (dk_at dksX4_about_3 17 rfl rfl)
theorem dX4_about_114 : decode cX4_about 114 = .ok (.ireturn, 1) := dk_172 (dk_at dksX4_about_3 18 rfl rfl)
theorem dX4_about_115 : decode cX4_about 115 = .ok (.aload_n 0, 1) := dk_42 (dk_at dksX4_about_3 19 rfl rfl)
theorem dX4_about_116 : decode cX4_about 116 = .ok (.getfield 113, 3) := dk_180 0 113 (dk_at dksX4_about_3 20 rfl rfl)
theorem dX4_about_119 : decode cX4_about 119 = .ok (.bipush 41, 2) := dk_16 41 (dk_at dksX4_about_4 0 rfl rfl)
theorem dX4_about_121 : decode cX4_about 121 = .ok (.iaload, 1) := dk_46 (dk_at dksX4_about_4 2 rfl rfl)
theorem dX4_about_122 : decode cX4_about 122 = .ok (.ireturn, 1) := dk_172 (dk_at dksX4_about_4 3 rfl rfl)
theorem dX4_about_123 : decode cX4_about 123 = .ok (.aload_n 0, 1) := dk_42 (dk_at dksX4_about_4 4 rfl rfl)
theorem dX4_about_124 : decode cX4_about 124 = .ok (.getfield 36, 3) := dk_180 0 36 (dk_at dksX4_about_4 5 rfl rfl)
theorem dX4_about_127 : decode cX4_about 127 = .ok (.aload_n 0, 1) := dk_42 (dk_at dksX4_about_4 8 rfl rfl)
theorem dX4_about_128 : decode cX4_about 128 = .ok (.getfield 301, 3) := dk_180 1 45 (dk_at dksX4_about_4 9 rfl rfl)
theorem dX4_about_131 : decode cX4_about 131 = .ok (.iaload, 1) := dk_46 (dk_at dksX4_about_4 12 rfl rfl)
theorem dX4_about_132 : decode cX4_about 132 = .ok (.ireturn, 1) := dk_172 (dk_at dksX4_about_4 13 rfl rfl)
theorem dX4_about_133 : decode cX4_about 133 = .ok (.aload_n 0, 1) := dk_42 (dk_at dksX4_about_4 14 rfl rfl)
theorem dX4_about_134 : decode cX4_about 134 = .ok (.getfield 405, 3) := dk_180 1 149 (dk_at dksX4_about_4 15 rfl rfl)
theorem dX4_about_137 : decode cX4_about 137 = .ok (.ireturn, 1) := dk_172 (dk_at dksX4_about_4 18 rfl rfl)
theorem dX4_about_138 : decode cX4_about 138 = .ok (.aload_n 0, 1) := dk_42 (dk_at dksX4_about_4 19 rfl rfl)
theorem dX4_about_139 : decode cX4_about 139 = .ok (.getfield 408, 3) := dk_180 1 152 (dk_at dksX4_about_4 20 rfl rfl)
theorem dX4_about_142 : decode cX4_about 142 = .ok (.ireturn, 1) := dk_172 (dk_at dksX4_about_4 23 rfl rfl)
theorem dX4_about_143 : decode cX4_about 143 = .ok (.aload_n 0, 1) := dk_42 (dk_at dksX4_about_5 0 rfl rfl)
theorem dX4_about_144 : decode cX4_about 144 = .ok (.getfield 411, 3) := dk_180 1 155 (dk_at dksX4_about_5 1 rfl rfl)
theorem dX4_about_147 : decode cX4_about 147 = .ok (.ireturn, 1) := dk_172 (dk_at dksX4_about_5 4 rfl rfl)
theorem dX4_about_148 : decode cX4_about 148 = .ok (.aload_n 0, 1) := dk_42 (dk_at dksX4_about_5 5 rfl rfl)
theorem dX4_about_149 : decode cX4_about 149 = .ok (.getfield 555, 3) := dk_180 2 43 (dk_at dksX4_about_5 6 rfl rfl)
theorem dX4_about_152 : decode cX4_about 152 = .ok (.ireturn, 1) := dk_172 (dk_at dksX4_about_5 9 rfl rfl)
theorem dX4_about_153 : decode cX4_about 153 = .ok (.aload_n 0, 1) := dk_42 (dk_at dksX4_about_5 10 rfl rfl)
theorem dX4_about_154 : decode cX4_about 154 = .ok (.getfield 298, 3) := dk_180 1 42 (dk_at dksX4_about_5 11 rfl rfl)
theorem dX4_about_157 : decode cX4_about 157 = .ok (.ireturn, 1) := dk_172 (dk_at dksX4_about_5 14 rfl rfl)
theorem dX4_about_158 : decode cX4_about 158 = .ok (.aload_n 0, 1) := dk_42 (dk_at dksX4_about_5 15 rfl rfl)
theorem dX4_about_159 : decode cX4_about 159 = .ok (.getfield 33, 3) := dk_180 0 33 (dk_at dksX4_about_5 16 rfl rfl)
theorem dX4_about_162 : decode cX4_about 162 = .ok (.aload_n 0, 1) := dk_42 (dk_at dksX4_about_5 19 rfl rfl)
theorem dX4_about_163 : decode cX4_about 163 = .ok (.getfield 301, 3) := dk_180 1 45 (dk_at dksX4_about_5 20 rfl rfl)
theorem dX4_about_166 : decode cX4_about 166 = .ok (.iaload, 1) := dk_46 (dk_at dksX4_about_5 23 rfl rfl)
theorem dX4_about_167 : decode cX4_about 167 = .ok (.ireturn, 1) := dk_172 (dk_at dksX4_about_6 0 rfl rfl)
theorem dX4_about_168 : decode cX4_about 168 = .ok (.aload_n 0, 1) := dk_42 (dk_at dksX4_about_6 1 rfl rfl)
theorem dX4_about_169 : decode cX4_about 169 = .ok (.getfield 414, 3) := dk_180 1 158 (dk_at dksX4_about_6 2 rfl rfl)
theorem dX4_about_172 : decode cX4_about 172 = .ok (.ireturn, 1) := dk_172 (dk_at dksX4_about_6 5 rfl rfl)
theorem dX4_about_173 : decode cX4_about 173 = .ok (.iconst (-1), 1) := dk_2 (dk_at dksX4_about_6 6 rfl rfl)
theorem dX4_about_174 : decode cX4_about 174 = .ok (.ireturn, 1) := dk_172 (dk_at dksX4_about_6 7 rfl rfl)
abbrev cX4_feed : ByteArray := prog_22_method_124_code
def yX4_feed : MethodName := ⟨RX4, "feed", "(IIIII)I"⟩
def dkwX4_feed_5 : List UInt8 := [180, 1, 42, 172]
abbrev dktX4_feed_5 : List UInt8 := dkwX4_feed_5 ++ []
def dkwX4_feed_4 : List UInt8 := [126, 104, 100, 122, 145, 84, 132, 6, 1, 167, 255, 172, 42, 89, 180, 1, 42, 16, 20, 96, 181, 1, 42, 42]
abbrev dktX4_feed_4 : List UInt8 := dkwX4_feed_4 ++ dktX4_feed_5
def dkwX4_feed_3 : List UInt8 := [21, 5, 54, 7, 42, 180, 0, 7, 42, 180, 1, 42, 21, 6, 96, 21, 7, 16, 24, 16, 8, 21, 6, 6]
abbrev dktX4_feed_3 : List UInt8 := dkwX4_feed_3 ++ dktX4_feed_4
def dkwX4_feed_2 : List UInt8 := [21, 6, 16, 12, 162, 0, 7, 29, 167, 0, 17, 21, 6, 16, 16, 162, 0, 8, 21, 4, 167, 0, 5]
abbrev dktX4_feed_2 : List UInt8 := dkwX4_feed_2 ++ dktX4_feed_3
def dkwX4_feed_1 : List UInt8 := [162, 0, 83, 21, 6, 7, 162, 0, 7, 27, 167, 0, 39, 21, 6, 16, 8, 162, 0, 7, 28, 167, 0, 28]
abbrev dktX4_feed_1 : List UInt8 := dkwX4_feed_1 ++ dktX4_feed_2
def dkwX4_feed_0 : List UInt8 := [42, 180, 1, 42, 16, 20, 96, 17, 6, 64, 164, 0, 5, 2, 172, 3, 54, 6, 21, 6, 16, 20]
abbrev dktX4_feed_0 : List UInt8 := dkwX4_feed_0 ++ dktX4_feed_1
theorem dksX4_feed_0 : cX4_feed.data.toList.drop 0 = dktX4_feed_0 := by decide +kernel
theorem dksX4_feed_1 : cX4_feed.data.toList.drop 22 = dktX4_feed_1 := dk_seg dksX4_feed_0 22 rfl rfl
theorem dksX4_feed_2 : cX4_feed.data.toList.drop 46 = dktX4_feed_2 := dk_seg dksX4_feed_1 24 rfl rfl
theorem dksX4_feed_3 : cX4_feed.data.toList.drop 69 = dktX4_feed_3 := dk_seg dksX4_feed_2 23 rfl rfl
theorem dksX4_feed_4 : cX4_feed.data.toList.drop 93 = dktX4_feed_4 := dk_seg dksX4_feed_3 24 rfl rfl
theorem dksX4_feed_5 : cX4_feed.data.toList.drop 117 = dktX4_feed_5 := dk_seg dksX4_feed_4 24 rfl rfl
theorem dX4_feed_0 : decode cX4_feed 0 = .ok (.aload_n 0, 1) := dk_42 (dk_at dksX4_feed_0 0 rfl rfl)
theorem dX4_feed_1 : decode cX4_feed 1 = .ok (.getfield 298, 3) := dk_180 1 42 (dk_at dksX4_feed_0 1 rfl rfl)
theorem dX4_feed_4 : decode cX4_feed 4 = .ok (.bipush 20, 2) := dk_16 20 (dk_at dksX4_feed_0 4 rfl rfl)
theorem dX4_feed_6 : decode cX4_feed 6 = .ok (.iadd, 1) := dk_96 (dk_at dksX4_feed_0 6 rfl rfl)
theorem dX4_feed_7 : decode cX4_feed 7 = .ok (.sipush 1600, 3) := dk_17 6 64 (dk_at dksX4_feed_0 7 rfl rfl)
theorem dX4_feed_10 : decode cX4_feed 10 = .ok (.if_icmp .le 5, 3) := dk_164 0 5 (dk_at dksX4_feed_0 10 rfl rfl)
theorem dX4_feed_13 : decode cX4_feed 13 = .ok (.iconst (-1), 1) := dk_2 (dk_at dksX4_feed_0 13 rfl rfl)
theorem dX4_feed_14 : decode cX4_feed 14 = .ok (.ireturn, 1) := dk_172 (dk_at dksX4_feed_0 14 rfl rfl)
theorem dX4_feed_15 : decode cX4_feed 15 = .ok (.iconst 0, 1) := dk_3 (dk_at dksX4_feed_0 15 rfl rfl)
theorem dX4_feed_16 : decode cX4_feed 16 = .ok (.istore 6, 2) := dk_54 6 (dk_at dksX4_feed_0 16 rfl rfl)
theorem dX4_feed_18 : decode cX4_feed 18 = .ok (.iload 6, 2) := dk_21 6 (dk_at dksX4_feed_0 18 rfl rfl)
theorem dX4_feed_20 : decode cX4_feed 20 = .ok (.bipush 20, 2) := dk_16 20 (dk_at dksX4_feed_0 20 rfl rfl)
theorem dX4_feed_22 : decode cX4_feed 22 = .ok (.if_icmp .ge 83, 3) := dk_162 0 83 (dk_at dksX4_feed_1 0 rfl rfl)
theorem dX4_feed_25 : decode cX4_feed 25 = .ok (.iload 6, 2) := dk_21 6 (dk_at dksX4_feed_1 3 rfl rfl)
theorem dX4_feed_27 : decode cX4_feed 27 = .ok (.iconst 4, 1) := dk_7 (dk_at dksX4_feed_1 5 rfl rfl)
theorem dX4_feed_28 : decode cX4_feed 28 = .ok (.if_icmp .ge 7, 3) := dk_162 0 7 (dk_at dksX4_feed_1 6 rfl rfl)
theorem dX4_feed_31 : decode cX4_feed 31 = .ok (.iload_n 1, 1) := dk_27 (dk_at dksX4_feed_1 9 rfl rfl)
theorem dX4_feed_32 : decode cX4_feed 32 = .ok (.goto 39, 3) := dk_167 0 39 (dk_at dksX4_feed_1 10 rfl rfl)
theorem dX4_feed_35 : decode cX4_feed 35 = .ok (.iload 6, 2) := dk_21 6 (dk_at dksX4_feed_1 13 rfl rfl)
theorem dX4_feed_37 : decode cX4_feed 37 = .ok (.bipush 8, 2) := dk_16 8 (dk_at dksX4_feed_1 15 rfl rfl)
theorem dX4_feed_39 : decode cX4_feed 39 = .ok (.if_icmp .ge 7, 3) := dk_162 0 7 (dk_at dksX4_feed_1 17 rfl rfl)
theorem dX4_feed_42 : decode cX4_feed 42 = .ok (.iload_n 2, 1) := dk_28 (dk_at dksX4_feed_1 20 rfl rfl)
theorem dX4_feed_43 : decode cX4_feed 43 = .ok (.goto 28, 3) := dk_167 0 28 (dk_at dksX4_feed_1 21 rfl rfl)
theorem dX4_feed_46 : decode cX4_feed 46 = .ok (.iload 6, 2) := dk_21 6 (dk_at dksX4_feed_2 0 rfl rfl)
theorem dX4_feed_48 : decode cX4_feed 48 = .ok (.bipush 12, 2) := dk_16 12 (dk_at dksX4_feed_2 2 rfl rfl)
theorem dX4_feed_50 : decode cX4_feed 50 = .ok (.if_icmp .ge 7, 3) := dk_162 0 7 (dk_at dksX4_feed_2 4 rfl rfl)
theorem dX4_feed_53 : decode cX4_feed 53 = .ok (.iload_n 3, 1) := dk_29 (dk_at dksX4_feed_2 7 rfl rfl)
theorem dX4_feed_54 : decode cX4_feed 54 = .ok (.goto 17, 3) := dk_167 0 17 (dk_at dksX4_feed_2 8 rfl rfl)
theorem dX4_feed_57 : decode cX4_feed 57 = .ok (.iload 6, 2) := dk_21 6 (dk_at dksX4_feed_2 11 rfl rfl)
theorem dX4_feed_59 : decode cX4_feed 59 = .ok (.bipush 16, 2) := dk_16 16 (dk_at dksX4_feed_2 13 rfl rfl)
theorem dX4_feed_61 : decode cX4_feed 61 = .ok (.if_icmp .ge 8, 3) := dk_162 0 8 (dk_at dksX4_feed_2 15 rfl rfl)
theorem dX4_feed_64 : decode cX4_feed 64 = .ok (.iload 4, 2) := dk_21 4 (dk_at dksX4_feed_2 18 rfl rfl)
theorem dX4_feed_66 : decode cX4_feed 66 = .ok (.goto 5, 3) := dk_167 0 5 (dk_at dksX4_feed_2 20 rfl rfl)
theorem dX4_feed_69 : decode cX4_feed 69 = .ok (.iload 5, 2) := dk_21 5 (dk_at dksX4_feed_3 0 rfl rfl)
theorem dX4_feed_71 : decode cX4_feed 71 = .ok (.istore 7, 2) := dk_54 7 (dk_at dksX4_feed_3 2 rfl rfl)
theorem dX4_feed_73 : decode cX4_feed 73 = .ok (.aload_n 0, 1) := dk_42 (dk_at dksX4_feed_3 4 rfl rfl)
theorem dX4_feed_74 : decode cX4_feed 74 = .ok (.getfield 7, 3) := dk_180 0 7 (dk_at dksX4_feed_3 5 rfl rfl)
theorem dX4_feed_77 : decode cX4_feed 77 = .ok (.aload_n 0, 1) := dk_42 (dk_at dksX4_feed_3 8 rfl rfl)
theorem dX4_feed_78 : decode cX4_feed 78 = .ok (.getfield 298, 3) := dk_180 1 42 (dk_at dksX4_feed_3 9 rfl rfl)
theorem dX4_feed_81 : decode cX4_feed 81 = .ok (.iload 6, 2) := dk_21 6 (dk_at dksX4_feed_3 12 rfl rfl)
theorem dX4_feed_83 : decode cX4_feed 83 = .ok (.iadd, 1) := dk_96 (dk_at dksX4_feed_3 14 rfl rfl)
theorem dX4_feed_84 : decode cX4_feed 84 = .ok (.iload 7, 2) := dk_21 7 (dk_at dksX4_feed_3 15 rfl rfl)
theorem dX4_feed_86 : decode cX4_feed 86 = .ok (.bipush 24, 2) := dk_16 24 (dk_at dksX4_feed_3 17 rfl rfl)
theorem dX4_feed_88 : decode cX4_feed 88 = .ok (.bipush 8, 2) := dk_16 8 (dk_at dksX4_feed_3 19 rfl rfl)
theorem dX4_feed_90 : decode cX4_feed 90 = .ok (.iload 6, 2) := dk_21 6 (dk_at dksX4_feed_3 21 rfl rfl)
theorem dX4_feed_92 : decode cX4_feed 92 = .ok (.iconst 3, 1) := dk_6 (dk_at dksX4_feed_3 23 rfl rfl)
theorem dX4_feed_93 : decode cX4_feed 93 = .ok (.iand, 1) := dk_126 (dk_at dksX4_feed_4 0 rfl rfl)
theorem dX4_feed_94 : decode cX4_feed 94 = .ok (.imul, 1) := dk_104 (dk_at dksX4_feed_4 1 rfl rfl)
theorem dX4_feed_95 : decode cX4_feed 95 = .ok (.isub, 1) := dk_100 (dk_at dksX4_feed_4 2 rfl rfl)
theorem dX4_feed_96 : decode cX4_feed 96 = .ok (.ishr, 1) := dk_122 (dk_at dksX4_feed_4 3 rfl rfl)
theorem dX4_feed_97 : decode cX4_feed 97 = .ok (.i2b, 1) := dk_145 (dk_at dksX4_feed_4 4 rfl rfl)
theorem dX4_feed_98 : decode cX4_feed 98 = .ok (.bastore, 1) := dk_84 (dk_at dksX4_feed_4 5 rfl rfl)
theorem dX4_feed_99 : decode cX4_feed 99 = .ok (.iinc 6 1, 3) := dk_132 6 1 (dk_at dksX4_feed_4 6 rfl rfl)
theorem dX4_feed_102 : decode cX4_feed 102 = .ok (.goto (-84), 3) := dk_167 255 172 (dk_at dksX4_feed_4 9 rfl rfl)
theorem dX4_feed_105 : decode cX4_feed 105 = .ok (.aload_n 0, 1) := dk_42 (dk_at dksX4_feed_4 12 rfl rfl)
theorem dX4_feed_106 : decode cX4_feed 106 = .ok (.dup, 1) := dk_89 (dk_at dksX4_feed_4 13 rfl rfl)
theorem dX4_feed_107 : decode cX4_feed 107 = .ok (.getfield 298, 3) := dk_180 1 42 (dk_at dksX4_feed_4 14 rfl rfl)
theorem dX4_feed_110 : decode cX4_feed 110 = .ok (.bipush 20, 2) := dk_16 20 (dk_at dksX4_feed_4 17 rfl rfl)
theorem dX4_feed_112 : decode cX4_feed 112 = .ok (.iadd, 1) := dk_96 (dk_at dksX4_feed_4 19 rfl rfl)
theorem dX4_feed_113 : decode cX4_feed 113 = .ok (.putfield 298, 3) := dk_181 1 42 (dk_at dksX4_feed_4 20 rfl rfl)
theorem dX4_feed_116 : decode cX4_feed 116 = .ok (.aload_n 0, 1) := dk_42 (dk_at dksX4_feed_4 23 rfl rfl)
theorem dX4_feed_117 : decode cX4_feed 117 = .ok (.getfield 298, 3) := dk_180 1 42 (dk_at dksX4_feed_5 0 rfl rfl)
theorem dX4_feed_120 : decode cX4_feed 120 = .ok (.ireturn, 1) := dk_172 (dk_at dksX4_feed_5 3 rfl rfl)
abbrev cX4_end : ByteArray := prog_22_method_125_code
def yX4_end : MethodName := ⟨RX4, "end", "(I)I"⟩
def dkwX4_end_0 : List UInt8 := [27, 155, 0, 11, 27, 42, 180, 1, 42, 164, 0, 5, 2, 172, 42, 27, 181, 1, 42, 27, 172]
abbrev dktX4_end_0 : List UInt8 := dkwX4_end_0 ++ []
theorem dksX4_end_0 : cX4_end.data.toList.drop 0 = dktX4_end_0 := by decide +kernel
theorem dX4_end_0 : decode cX4_end 0 = .ok (.iload_n 1, 1) := dk_27 (dk_at dksX4_end_0 0 rfl rfl)
theorem dX4_end_1 : decode cX4_end 1 = .ok (.ifCond .lt 11, 3) := dk_155 0 11 (dk_at dksX4_end_0 1 rfl rfl)
theorem dX4_end_4 : decode cX4_end 4 = .ok (.iload_n 1, 1) := dk_27 (dk_at dksX4_end_0 4 rfl rfl)
theorem dX4_end_5 : decode cX4_end 5 = .ok (.aload_n 0, 1) := dk_42 (dk_at dksX4_end_0 5 rfl rfl)
theorem dX4_end_6 : decode cX4_end 6 = .ok (.getfield 298, 3) := dk_180 1 42 (dk_at dksX4_end_0 6 rfl rfl)
theorem dX4_end_9 : decode cX4_end 9 = .ok (.if_icmp .le 5, 3) := dk_164 0 5 (dk_at dksX4_end_0 9 rfl rfl)
theorem dX4_end_12 : decode cX4_end 12 = .ok (.iconst (-1), 1) := dk_2 (dk_at dksX4_end_0 12 rfl rfl)
theorem dX4_end_13 : decode cX4_end 13 = .ok (.ireturn, 1) := dk_172 (dk_at dksX4_end_0 13 rfl rfl)
theorem dX4_end_14 : decode cX4_end 14 = .ok (.aload_n 0, 1) := dk_42 (dk_at dksX4_end_0 14 rfl rfl)
theorem dX4_end_15 : decode cX4_end 15 = .ok (.iload_n 1, 1) := dk_27 (dk_at dksX4_end_0 15 rfl rfl)
theorem dX4_end_16 : decode cX4_end 16 = .ok (.putfield 298, 3) := dk_181 1 42 (dk_at dksX4_end_0 16 rfl rfl)
theorem dX4_end_19 : decode cX4_end 19 = .ok (.iload_n 1, 1) := dk_27 (dk_at dksX4_end_0 19 rfl rfl)
theorem dX4_end_20 : decode cX4_end 20 = .ok (.ireturn, 1) := dk_172 (dk_at dksX4_end_0 20 rfl rfl)
theorem q150 : (Jvm.Cond.initialized "WeatherWagesModel") ∈ lw_all := lw_g (lw_at lw_m1 10 rfl) rfl
theorem q943 : (Jvm.Cond.selects "WeatherWagesModel" ({ cls := "java/lang/Object", name := "getClass", desc := "()Ljava/lang/Class;" } : Jvm.MethodName) ({ cls := "java/lang/Object", name := "getClass", desc := "()Ljava/lang/Class;" } : Jvm.MethodName)) ∈ lw_all := lw_g (lw_at lw_m4 83 rfl) rfl
theorem q1686 : (Jvm.Cond.instantiable "WeatherWagesModel" (83 : Nat)) ∈ lw_all := lw_g (lw_at lw_m7 106 rfl) rfl
theorem q1688 : (Jvm.Cond.instanceMethod ({ cls := "WeatherWagesModel", name := "<init>", desc := "()V" } : Jvm.MethodName)) ∈ lw_all := lw_g (lw_at lw_m7 108 rfl) rfl
theorem q1689 : (Jvm.Cond.code ({ cls := "WeatherWagesModel", name := "<init>", desc := "()V" } : Jvm.MethodName) prog_22_method_1_code (1 : Nat) (Option.none : Option Jvm.ClassFile.FieldType)) ∈ lw_all := lw_g (lw_at lw_m7 109 rfl) rfl
theorem q1690 : (Jvm.Cond.methodLink "WeatherWagesModel" (1 : Nat) ({ cls := "java/lang/Object", name := "<init>", desc := "()V" } : Jvm.MethodName)) ∈ lw_all := lw_g (lw_at lw_m7 110 rfl) rfl
theorem q1691 : (Jvm.Cond.methodLink "WeatherWagesModel" (179 : Nat) ({ cls := "WeatherWagesModel", name := "clearBank", desc := "()V" } : Jvm.MethodName)) ∈ lw_all := lw_g (lw_at lw_m7 111 rfl) rfl
theorem q1692 : (Jvm.Cond.privateMethod ({ cls := "WeatherWagesModel", name := "clearBank", desc := "()V" } : Jvm.MethodName)) ∈ lw_tbl := lw_at lw_m7 112 rfl
theorem q1693 : (Jvm.Cond.instanceMethod ({ cls := "WeatherWagesModel", name := "clearBank", desc := "()V" } : Jvm.MethodName)) ∈ lw_all := lw_g (lw_at lw_m7 113 rfl) rfl
theorem q1694 : (Jvm.Cond.code ({ cls := "WeatherWagesModel", name := "clearBank", desc := "()V" } : Jvm.MethodName) prog_22_method_16_code (2 : Nat) (Option.none : Option Jvm.ClassFile.FieldType)) ∈ lw_all := lw_g (lw_at lw_m7 114 rfl) rfl
theorem q1695 : (Jvm.Cond.methodLink "WeatherWagesModel" (182 : Nat) ({ cls := "WeatherWagesModel", name := "startAnew", desc := "()V" } : Jvm.MethodName)) ∈ lw_all := lw_g (lw_at lw_m7 115 rfl) rfl
theorem q1696 : (Jvm.Cond.privateMethod ({ cls := "WeatherWagesModel", name := "startAnew", desc := "()V" } : Jvm.MethodName)) ∈ lw_tbl := lw_at lw_m7 116 rfl
theorem q1697 : (Jvm.Cond.instanceMethod ({ cls := "WeatherWagesModel", name := "startAnew", desc := "()V" } : Jvm.MethodName)) ∈ lw_all := lw_g (lw_at lw_m7 117 rfl) rfl
theorem q1698 : (Jvm.Cond.code ({ cls := "WeatherWagesModel", name := "startAnew", desc := "()V" } : Jvm.MethodName) prog_22_method_53_code (3 : Nat) (Option.none : Option Jvm.ClassFile.FieldType)) ∈ lw_all := lw_g (lw_at lw_m7 118 rfl) rfl
theorem q1699 : (Jvm.Cond.methodLink "WeatherWagesModel" (398 : Nat) ({ cls := "WeatherWagesModel", name := "many", desc := "()I" } : Jvm.MethodName)) ∈ lw_all := lw_g (lw_at lw_m7 119 rfl) rfl
theorem q1700 : (Jvm.Cond.privateMethod ({ cls := "WeatherWagesModel", name := "many", desc := "()I" } : Jvm.MethodName)) ∈ lw_tbl := lw_at lw_m7 120 rfl
theorem q1701 : (Jvm.Cond.instanceMethod ({ cls := "WeatherWagesModel", name := "many", desc := "()I" } : Jvm.MethodName)) ∈ lw_all := lw_g (lw_at lw_m7 121 rfl) rfl
theorem q1702 : (Jvm.Cond.code ({ cls := "WeatherWagesModel", name := "many", desc := "()I" } : Jvm.MethodName) prog_22_method_47_code (1 : Nat) (Option.some Jvm.ClassFile.FieldType.int)) ∈ lw_all := lw_g (lw_at lw_m7 122 rfl) rfl
theorem q1703 : (Jvm.Cond.fieldLink "WeatherWagesModel" (7 : Nat) "WeatherWagesModel" "tape" "[B") ∈ lw_all := lw_g (lw_at lw_m7 123 rfl) rfl
theorem q1704 : (Jvm.Cond.fieldLink "WeatherWagesModel" (13 : Nat) "WeatherWagesModel" "text" "[B") ∈ lw_all := lw_g (lw_at lw_m7 124 rfl) rfl
theorem q1705 : (Jvm.Cond.fieldLink "WeatherWagesModel" (298 : Nat) "WeatherWagesModel" "taped" "I") ∈ lw_all := lw_g (lw_at lw_m7 125 rfl) rfl
theorem q1706 : (Jvm.Cond.fieldLink "WeatherWagesModel" (185 : Nat) "WeatherWagesModel" "size" "I") ∈ lw_all := lw_g (lw_at lw_m7 126 rfl) rfl
theorem q1707 : (Jvm.Cond.fieldLink "WeatherWagesModel" (188 : Nat) "WeatherWagesModel" "faultKind" "I") ∈ lw_all := lw_g (lw_at lw_m7 127 rfl) rfl
theorem q1708 : (Jvm.Cond.fieldLink "WeatherWagesModel" (16 : Nat) "WeatherWagesModel" "faultPlace" "I") ∈ lw_all := lw_g (lw_at lw_m7 128 rfl) rfl
theorem q1709 : (Jvm.Cond.fieldLink "WeatherWagesModel" (236 : Nat) "WeatherWagesModel" "at" "I") ∈ lw_all := lw_g (lw_at lw_m7 129 rfl) rfl
theorem q1710 : (Jvm.Cond.fieldLink "WeatherWagesModel" (233 : Nat) "WeatherWagesModel" "end" "I") ∈ lw_all := lw_g (lw_at lw_m7 130 rfl) rfl
theorem q1711 : (Jvm.Cond.fieldLink "WeatherWagesModel" (243 : Nat) "WeatherWagesModel" "token" "I") ∈ lw_all := lw_g (lw_at lw_m7 131 rfl) rfl
theorem q1712 : (Jvm.Cond.fieldLink "WeatherWagesModel" (261 : Nat) "WeatherWagesModel" "number" "I") ∈ lw_all := lw_g (lw_at lw_m7 132 rfl) rfl
theorem q1713 : (Jvm.Cond.fieldLink "WeatherWagesModel" (250 : Nat) "WeatherWagesModel" "name" "J") ∈ lw_all := lw_g (lw_at lw_m7 133 rfl) rfl
theorem q1714 : (Jvm.Cond.fieldLink "WeatherWagesModel" (20 : Nat) "WeatherWagesModel" "kinds" "[I") ∈ lw_all := lw_g (lw_at lw_m7 134 rfl) rfl
theorem q1715 : (Jvm.Cond.fieldLink "WeatherWagesModel" (24 : Nat) "WeatherWagesModel" "men" "[I") ∈ lw_all := lw_g (lw_at lw_m7 135 rfl) rfl
theorem q1716 : (Jvm.Cond.fieldLink "WeatherWagesModel" (27 : Nat) "WeatherWagesModel" "books" "[I") ∈ lw_all := lw_g (lw_at lw_m7 136 rfl) rfl
theorem q1717 : (Jvm.Cond.fieldLink "WeatherWagesModel" (30 : Nat) "WeatherWagesModel" "rates" "[I") ∈ lw_all := lw_g (lw_at lw_m7 137 rfl) rfl
theorem q1718 : (Jvm.Cond.fieldLink "WeatherWagesModel" (33 : Nat) "WeatherWagesModel" "units" "[I") ∈ lw_all := lw_g (lw_at lw_m7 138 rfl) rfl
theorem q1719 : (Jvm.Cond.fieldLink "WeatherWagesModel" (36 : Nat) "WeatherWagesModel" "hours" "[I") ∈ lw_all := lw_g (lw_at lw_m7 139 rfl) rfl
theorem q1720 : (Jvm.Cond.fieldLink "WeatherWagesModel" (39 : Nat) "WeatherWagesModel" "draw" "[I") ∈ lw_all := lw_g (lw_at lw_m7 140 rfl) rfl
theorem q1721 : (Jvm.Cond.fieldLink "WeatherWagesModel" (42 : Nat) "WeatherWagesModel" "isLoose" "[I") ∈ lw_all := lw_g (lw_at lw_m7 141 rfl) rfl
theorem q1722 : (Jvm.Cond.fieldLink "WeatherWagesModel" (45 : Nat) "WeatherWagesModel" "isHedged" "[I") ∈ lw_all := lw_g (lw_at lw_m7 142 rfl) rfl
theorem q1723 : (Jvm.Cond.fieldLink "WeatherWagesModel" (48 : Nat) "WeatherWagesModel" "cropTold" "[I") ∈ lw_all := lw_g (lw_at lw_m7 143 rfl) rfl
theorem q1724 : (Jvm.Cond.fieldLink "WeatherWagesModel" (51 : Nat) "WeatherWagesModel" "hedge" "[I") ∈ lw_all := lw_g (lw_at lw_m7 144 rfl) rfl
theorem q1725 : (Jvm.Cond.fieldLink "WeatherWagesModel" (54 : Nat) "WeatherWagesModel" "purseTold" "[I") ∈ lw_all := lw_g (lw_at lw_m7 145 rfl) rfl
theorem q1726 : (Jvm.Cond.fieldLink "WeatherWagesModel" (57 : Nat) "WeatherWagesModel" "payTold" "[I") ∈ lw_all := lw_g (lw_at lw_m7 146 rfl) rfl
theorem q1727 : (Jvm.Cond.fieldLink "WeatherWagesModel" (60 : Nat) "WeatherWagesModel" "isPurse" "[I") ∈ lw_all := lw_g (lw_at lw_m7 147 rfl) rfl
theorem q1728 : (Jvm.Cond.fieldLink "WeatherWagesModel" (63 : Nat) "WeatherWagesModel" "isPay" "[I") ∈ lw_all := lw_g (lw_at lw_m7 148 rfl) rfl
theorem q1729 : (Jvm.Cond.fieldLink "WeatherWagesModel" (66 : Nat) "WeatherWagesModel" "rateOf" "[I") ∈ lw_all := lw_g (lw_at lw_m7 149 rfl) rfl
theorem q1730 : (Jvm.Cond.fieldLink "WeatherWagesModel" (69 : Nat) "WeatherWagesModel" "rateFor" "[I") ∈ lw_all := lw_g (lw_at lw_m7 150 rfl) rfl
theorem q1731 : (Jvm.Cond.fieldLink "WeatherWagesModel" (72 : Nat) "WeatherWagesModel" "book" "[I") ∈ lw_all := lw_g (lw_at lw_m7 151 rfl) rfl
theorem q1732 : (Jvm.Cond.fieldLink "WeatherWagesModel" (75 : Nat) "WeatherWagesModel" "ruleFrom" "[I") ∈ lw_all := lw_g (lw_at lw_m7 152 rfl) rfl
theorem q1733 : (Jvm.Cond.fieldLink "WeatherWagesModel" (78 : Nat) "WeatherWagesModel" "ruleTo" "[I") ∈ lw_all := lw_g (lw_at lw_m7 153 rfl) rfl
theorem q1734 : (Jvm.Cond.fieldLink "WeatherWagesModel" (81 : Nat) "WeatherWagesModel" "hasGrow" "[Z") ∈ lw_all := lw_g (lw_at lw_m7 154 rfl) rfl
theorem q1735 : (Jvm.Cond.fieldLink "WeatherWagesModel" (85 : Nat) "WeatherWagesModel" "hasHours" "[Z") ∈ lw_all := lw_g (lw_at lw_m7 155 rfl) rfl
theorem q1736 : (Jvm.Cond.fieldLink "WeatherWagesModel" (88 : Nat) "WeatherWagesModel" "isDraw" "[Z") ∈ lw_all := lw_g (lw_at lw_m7 156 rfl) rfl
theorem q1737 : (Jvm.Cond.fieldLink "WeatherWagesModel" (91 : Nat) "WeatherWagesModel" "kName" "[J") ∈ lw_all := lw_g (lw_at lw_m7 157 rfl) rfl
theorem q1738 : (Jvm.Cond.fieldLink "WeatherWagesModel" (95 : Nat) "WeatherWagesModel" "mName" "[J") ∈ lw_all := lw_g (lw_at lw_m7 158 rfl) rfl
theorem q1739 : (Jvm.Cond.fieldLink "WeatherWagesModel" (98 : Nat) "WeatherWagesModel" "code" "[I") ∈ lw_all := lw_g (lw_at lw_m7 159 rfl) rfl
theorem q1740 : (Jvm.Cond.fieldLink "WeatherWagesModel" (101 : Nat) "WeatherWagesModel" "codeNumber" "[I") ∈ lw_all := lw_g (lw_at lw_m7 160 rfl) rfl
theorem q1741 : (Jvm.Cond.fieldLink "WeatherWagesModel" (104 : Nat) "WeatherWagesModel" "eWhat" "[I") ∈ lw_all := lw_g (lw_at lw_m7 161 rfl) rfl
theorem q1742 : (Jvm.Cond.fieldLink "WeatherWagesModel" (107 : Nat) "WeatherWagesModel" "eSign" "[I") ∈ lw_all := lw_g (lw_at lw_m7 162 rfl) rfl
theorem q1743 : (Jvm.Cond.fieldLink "WeatherWagesModel" (110 : Nat) "WeatherWagesModel" "pile" "[I") ∈ lw_all := lw_g (lw_at lw_m7 163 rfl) rfl
theorem q1744 : (Jvm.Cond.fieldLink "WeatherWagesModel" (301 : Nat) "WeatherWagesModel" "bank" "I") ∈ lw_all := lw_g (lw_at lw_m7 164 rfl) rfl
theorem q1745 : (Jvm.Cond.fieldLink "WeatherWagesModel" (292 : Nat) "WeatherWagesModel" "rb" "I") ∈ lw_all := lw_g (lw_at lw_m7 165 rfl) rfl
theorem q1746 : (Jvm.Cond.fieldLink "WeatherWagesModel" (295 : Nat) "WeatherWagesModel" "codes" "I") ∈ lw_all := lw_g (lw_at lw_m7 166 rfl) rfl
theorem q1747 : (Jvm.Cond.fieldLink "WeatherWagesModel" (361 : Nat) "WeatherWagesModel" "within" "I") ∈ lw_all := lw_g (lw_at lw_m7 167 rfl) rfl
theorem q1748 : (Jvm.Cond.fieldLink "WeatherWagesModel" (358 : Nat) "WeatherWagesModel" "piled" "I") ∈ lw_all := lw_g (lw_at lw_m7 168 rfl) rfl
theorem q1749 : (Jvm.Cond.fieldLink "WeatherWagesModel" (352 : Nat) "WeatherWagesModel" "unitsInRule" "I") ∈ lw_all := lw_g (lw_at lw_m7 169 rfl) rfl
theorem q1750 : (Jvm.Cond.fieldLink "WeatherWagesModel" (385 : Nat) "WeatherWagesModel" "askMan" "I") ∈ lw_all := lw_g (lw_at lw_m7 170 rfl) rfl
theorem q1751 : (Jvm.Cond.fieldLink "WeatherWagesModel" (113 : Nat) "WeatherWagesModel" "all" "[I") ∈ lw_all := lw_g (lw_at lw_m7 171 rfl) rfl
theorem q1752 : (Jvm.Cond.fieldLink "WeatherWagesModel" (116 : Nat) "WeatherWagesModel" "was" "[I") ∈ lw_all := lw_g (lw_at lw_m7 172 rfl) rfl
theorem q1753 : (Jvm.Cond.fieldLink "WeatherWagesModel" (405 : Nat) "WeatherWagesModel" "acts" "I") ∈ lw_all := lw_g (lw_at lw_m7 173 rfl) rfl
theorem q1754 : (Jvm.Cond.fieldLink "WeatherWagesModel" (408 : Nat) "WeatherWagesModel" "undone" "I") ∈ lw_all := lw_g (lw_at lw_m7 174 rfl) rfl
theorem q1755 : (Jvm.Cond.fieldLink "WeatherWagesModel" (119 : Nat) "WeatherWagesModel" "row" "[I") ∈ lw_all := lw_g (lw_at lw_m7 175 rfl) rfl
theorem q1756 : (Jvm.Cond.fieldLink "WeatherWagesModel" (122 : Nat) "WeatherWagesModel" "bestRow" "[I") ∈ lw_all := lw_g (lw_at lw_m7 176 rfl) rfl
theorem q1757 : (Jvm.Cond.fieldLink "WeatherWagesModel" (125 : Nat) "WeatherWagesModel" "laidRow" "[I") ∈ lw_all := lw_g (lw_at lw_m7 177 rfl) rfl
theorem q1758 : (Jvm.Cond.fieldLink "WeatherWagesModel" (414 : Nat) "WeatherWagesModel" "laid" "I") ∈ lw_all := lw_g (lw_at lw_m7 178 rfl) rfl
theorem q1759 : (Jvm.Cond.fieldLink "WeatherWagesModel" (481 : Nat) "WeatherWagesModel" "bestHours" "I") ∈ lw_all := lw_g (lw_at lw_m7 179 rfl) rfl
theorem q1760 : (Jvm.Cond.fieldLink "WeatherWagesModel" (487 : Nat) "WeatherWagesModel" "bestGrowth" "I") ∈ lw_all := lw_g (lw_at lw_m7 180 rfl) rfl
theorem q1761 : (Jvm.Cond.fieldLink "WeatherWagesModel" (128 : Nat) "WeatherWagesModel" "mostOf" "[I") ∈ lw_all := lw_g (lw_at lw_m7 181 rfl) rfl
theorem q1762 : (Jvm.Cond.fieldLink "WeatherWagesModel" (131 : Nat) "WeatherWagesModel" "firstRow" "[I") ∈ lw_all := lw_g (lw_at lw_m7 182 rfl) rfl
theorem q1763 : (Jvm.Cond.fieldLink "WeatherWagesModel" (134 : Nat) "WeatherWagesModel" "bothOf" "[I") ∈ lw_all := lw_g (lw_at lw_m7 183 rfl) rfl
theorem q1764 : (Jvm.Cond.fieldLink "WeatherWagesModel" (137 : Nat) "WeatherWagesModel" "restOf" "[I") ∈ lw_all := lw_g (lw_at lw_m7 184 rfl) rfl
theorem q1765 : (Jvm.Cond.fieldLink "WeatherWagesModel" (507 : Nat) "WeatherWagesModel" "poolHours" "I") ∈ lw_all := lw_g (lw_at lw_m7 185 rfl) rfl
theorem q1766 : (Jvm.Cond.fieldLink "WeatherWagesModel" (510 : Nat) "WeatherWagesModel" "poolGrowth" "I") ∈ lw_all := lw_g (lw_at lw_m7 186 rfl) rfl
theorem q1767 : (Jvm.Cond.fieldLink "WeatherWagesModel" (140 : Nat) "WeatherWagesModel" "kept" "[I") ∈ lw_all := lw_g (lw_at lw_m7 187 rfl) rfl
theorem q1768 : (Jvm.Cond.fieldLink "WeatherWagesModel" (143 : Nat) "WeatherWagesModel" "laidKept" "[I") ∈ lw_all := lw_g (lw_at lw_m7 188 rfl) rfl
theorem q1769 : (Jvm.Cond.fieldLink "WeatherWagesModel" (146 : Nat) "WeatherWagesModel" "spends" "[I") ∈ lw_all := lw_g (lw_at lw_m7 189 rfl) rfl
theorem q1770 : (Jvm.Cond.fieldLink "WeatherWagesModel" (540 : Nat) "WeatherWagesModel" "gainUpper" "I") ∈ lw_all := lw_g (lw_at lw_m7 190 rfl) rfl
theorem q1771 : (Jvm.Cond.fieldLink "WeatherWagesModel" (537 : Nat) "WeatherWagesModel" "gainLower" "I") ∈ lw_all := lw_g (lw_at lw_m7 191 rfl) rfl
theorem q1772 : (Jvm.Cond.fieldLink "WeatherWagesModel" (543 : Nat) "WeatherWagesModel" "gainRound" "I") ∈ lw_all := lw_g (lw_at lw_m7 192 rfl) rfl
theorem q1773 : (Jvm.Cond.fieldLink "WeatherWagesModel" (149 : Nat) "WeatherWagesModel" "sMan" "[I") ∈ lw_all := lw_g (lw_at lw_m7 193 rfl) rfl
theorem q1774 : (Jvm.Cond.fieldLink "WeatherWagesModel" (152 : Nat) "WeatherWagesModel" "sOther" "[I") ∈ lw_all := lw_g (lw_at lw_m7 194 rfl) rfl
theorem q1775 : (Jvm.Cond.fieldLink "WeatherWagesModel" (155 : Nat) "WeatherWagesModel" "sNumber" "[I") ∈ lw_all := lw_g (lw_at lw_m7 195 rfl) rfl
theorem q1776 : (Jvm.Cond.fieldLink "WeatherWagesModel" (158 : Nat) "WeatherWagesModel" "sIs" "[I") ∈ lw_all := lw_g (lw_at lw_m7 196 rfl) rfl
theorem q1777 : (Jvm.Cond.fieldLink "WeatherWagesModel" (161 : Nat) "WeatherWagesModel" "sTold" "[I") ∈ lw_all := lw_g (lw_at lw_m7 197 rfl) rfl
theorem q1778 : (Jvm.Cond.fieldLink "WeatherWagesModel" (164 : Nat) "WeatherWagesModel" "sUntold" "[I") ∈ lw_all := lw_g (lw_at lw_m7 198 rfl) rfl
theorem q1779 : (Jvm.Cond.fieldLink "WeatherWagesModel" (167 : Nat) "WeatherWagesModel" "bookOf" "[I") ∈ lw_all := lw_g (lw_at lw_m7 199 rfl) rfl
theorem q1780 : (Jvm.Cond.fieldLink "WeatherWagesModel" (170 : Nat) "WeatherWagesModel" "byBook" "[I") ∈ lw_all := lw_g (lw_at lw_m7 200 rfl) rfl
theorem q1781 : (Jvm.Cond.fieldLink "WeatherWagesModel" (411 : Nat) "WeatherWagesModel" "sights" "I") ∈ lw_all := lw_g (lw_at lw_m7 201 rfl) rfl
theorem q1782 : (Jvm.Cond.fieldLink "WeatherWagesModel" (555 : Nat) "WeatherWagesModel" "time" "I") ∈ lw_all := lw_g (lw_at lw_m7 202 rfl) rfl
theorem q1783 : (Jvm.Cond.fieldLink "WeatherWagesModel" (569 : Nat) "WeatherWagesModel" "fitting" "I") ∈ lw_all := lw_g (lw_at lw_m7 203 rfl) rfl
theorem q1784 : (Jvm.Cond.fieldLink "WeatherWagesModel" (173 : Nat) "WeatherWagesModel" "boxAll" "[I") ∈ lw_all := lw_g (lw_at lw_m7 204 rfl) rfl
theorem q1785 : (Jvm.Cond.fieldLink "WeatherWagesModel" (176 : Nat) "WeatherWagesModel" "isBoxed" "[Z") ∈ lw_all := lw_g (lw_at lw_m7 205 rfl) rfl
theorem q1786 : (Jvm.Cond.laysFinal "WeatherWagesModel" "WeatherWagesModel" "tape" "[B") ∈ lw_all := lw_g (lw_at lw_m7 206 rfl) rfl
theorem q1787 : (Jvm.Cond.soleField "WeatherWagesModel" "tape") ∈ lw_all := lw_g (lw_at lw_m7 207 rfl) rfl
theorem q1788 : (Jvm.Cond.laysFinal "WeatherWagesModel" "WeatherWagesModel" "text" "[B") ∈ lw_all := lw_g (lw_at lw_m7 208 rfl) rfl
theorem q1789 : (Jvm.Cond.soleField "WeatherWagesModel" "text") ∈ lw_all := lw_g (lw_at lw_m7 209 rfl) rfl
theorem q1790 : (Jvm.Cond.lays "WeatherWagesModel" "WeatherWagesModel" "taped" "I") ∈ lw_all := lw_g (lw_at lw_m7 210 rfl) rfl
theorem q1791 : (Jvm.Cond.soleField "WeatherWagesModel" "taped") ∈ lw_all := lw_g (lw_at lw_m7 211 rfl) rfl
theorem q1792 : (Jvm.Cond.lays "WeatherWagesModel" "WeatherWagesModel" "size" "I") ∈ lw_all := lw_g (lw_at lw_m7 212 rfl) rfl
theorem q1793 : (Jvm.Cond.soleField "WeatherWagesModel" "size") ∈ lw_all := lw_g (lw_at lw_m7 213 rfl) rfl
theorem q1794 : (Jvm.Cond.lays "WeatherWagesModel" "WeatherWagesModel" "faultKind" "I") ∈ lw_all := lw_g (lw_at lw_m7 214 rfl) rfl
theorem q1795 : (Jvm.Cond.soleField "WeatherWagesModel" "faultKind") ∈ lw_all := lw_g (lw_at lw_m7 215 rfl) rfl
theorem q1796 : (Jvm.Cond.lays "WeatherWagesModel" "WeatherWagesModel" "faultPlace" "I") ∈ lw_all := lw_g (lw_at lw_m7 216 rfl) rfl
theorem q1797 : (Jvm.Cond.soleField "WeatherWagesModel" "faultPlace") ∈ lw_all := lw_g (lw_at lw_m7 217 rfl) rfl
theorem q1798 : (Jvm.Cond.lays "WeatherWagesModel" "WeatherWagesModel" "at" "I") ∈ lw_all := lw_g (lw_at lw_m7 218 rfl) rfl
theorem q1799 : (Jvm.Cond.soleField "WeatherWagesModel" "at") ∈ lw_all := lw_g (lw_at lw_m7 219 rfl) rfl
theorem q1800 : (Jvm.Cond.lays "WeatherWagesModel" "WeatherWagesModel" "end" "I") ∈ lw_all := lw_g (lw_at lw_m7 220 rfl) rfl
theorem q1801 : (Jvm.Cond.soleField "WeatherWagesModel" "end") ∈ lw_all := lw_g (lw_at lw_m7 221 rfl) rfl
theorem q1802 : (Jvm.Cond.lays "WeatherWagesModel" "WeatherWagesModel" "token" "I") ∈ lw_all := lw_g (lw_at lw_m7 222 rfl) rfl
theorem q1803 : (Jvm.Cond.soleField "WeatherWagesModel" "token") ∈ lw_all := lw_g (lw_at lw_m7 223 rfl) rfl
theorem q1804 : (Jvm.Cond.lays "WeatherWagesModel" "WeatherWagesModel" "number" "I") ∈ lw_all := lw_g (lw_at lw_m7 224 rfl) rfl
theorem q1805 : (Jvm.Cond.soleField "WeatherWagesModel" "number") ∈ lw_all := lw_g (lw_at lw_m7 225 rfl) rfl
theorem q1806 : (Jvm.Cond.lays "WeatherWagesModel" "WeatherWagesModel" "name" "J") ∈ lw_all := lw_g (lw_at lw_m7 226 rfl) rfl
theorem q1807 : (Jvm.Cond.soleField "WeatherWagesModel" "name") ∈ lw_all := lw_g (lw_at lw_m7 227 rfl) rfl
theorem q1808 : (Jvm.Cond.laysFinal "WeatherWagesModel" "WeatherWagesModel" "kinds" "[I") ∈ lw_all := lw_g (lw_at lw_m7 228 rfl) rfl
theorem q1809 : (Jvm.Cond.soleField "WeatherWagesModel" "kinds") ∈ lw_all := lw_g (lw_at lw_m7 229 rfl) rfl
theorem q1810 : (Jvm.Cond.laysFinal "WeatherWagesModel" "WeatherWagesModel" "men" "[I") ∈ lw_all := lw_g (lw_at lw_m7 230 rfl) rfl
theorem q1811 : (Jvm.Cond.soleField "WeatherWagesModel" "men") ∈ lw_all := lw_g (lw_at lw_m7 231 rfl) rfl
theorem q1812 : (Jvm.Cond.laysFinal "WeatherWagesModel" "WeatherWagesModel" "books" "[I") ∈ lw_all := lw_g (lw_at lw_m7 232 rfl) rfl
theorem q1813 : (Jvm.Cond.soleField "WeatherWagesModel" "books") ∈ lw_all := lw_g (lw_at lw_m7 233 rfl) rfl
theorem q1814 : (Jvm.Cond.laysFinal "WeatherWagesModel" "WeatherWagesModel" "rates" "[I") ∈ lw_all := lw_g (lw_at lw_m7 234 rfl) rfl
theorem q1815 : (Jvm.Cond.soleField "WeatherWagesModel" "rates") ∈ lw_all := lw_g (lw_at lw_m7 235 rfl) rfl
theorem q1816 : (Jvm.Cond.laysFinal "WeatherWagesModel" "WeatherWagesModel" "units" "[I") ∈ lw_all := lw_g (lw_at lw_m7 236 rfl) rfl
theorem q1817 : (Jvm.Cond.soleField "WeatherWagesModel" "units") ∈ lw_all := lw_g (lw_at lw_m7 237 rfl) rfl
theorem q1818 : (Jvm.Cond.laysFinal "WeatherWagesModel" "WeatherWagesModel" "hours" "[I") ∈ lw_all := lw_g (lw_at lw_m7 238 rfl) rfl
theorem q1819 : (Jvm.Cond.soleField "WeatherWagesModel" "hours") ∈ lw_all := lw_g (lw_at lw_m7 239 rfl) rfl
theorem q1820 : (Jvm.Cond.laysFinal "WeatherWagesModel" "WeatherWagesModel" "draw" "[I") ∈ lw_all := lw_g (lw_at lw_m8 0 rfl) rfl
theorem q1821 : (Jvm.Cond.soleField "WeatherWagesModel" "draw") ∈ lw_all := lw_g (lw_at lw_m8 1 rfl) rfl
theorem q1822 : (Jvm.Cond.laysFinal "WeatherWagesModel" "WeatherWagesModel" "isLoose" "[I") ∈ lw_all := lw_g (lw_at lw_m8 2 rfl) rfl
theorem q1823 : (Jvm.Cond.soleField "WeatherWagesModel" "isLoose") ∈ lw_all := lw_g (lw_at lw_m8 3 rfl) rfl
theorem q1824 : (Jvm.Cond.laysFinal "WeatherWagesModel" "WeatherWagesModel" "isHedged" "[I") ∈ lw_all := lw_g (lw_at lw_m8 4 rfl) rfl
theorem q1825 : (Jvm.Cond.soleField "WeatherWagesModel" "isHedged") ∈ lw_all := lw_g (lw_at lw_m8 5 rfl) rfl
theorem q1826 : (Jvm.Cond.laysFinal "WeatherWagesModel" "WeatherWagesModel" "cropTold" "[I") ∈ lw_all := lw_g (lw_at lw_m8 6 rfl) rfl
theorem q1827 : (Jvm.Cond.soleField "WeatherWagesModel" "cropTold") ∈ lw_all := lw_g (lw_at lw_m8 7 rfl) rfl
theorem q1828 : (Jvm.Cond.laysFinal "WeatherWagesModel" "WeatherWagesModel" "hedge" "[I") ∈ lw_all := lw_g (lw_at lw_m8 8 rfl) rfl
theorem q1829 : (Jvm.Cond.soleField "WeatherWagesModel" "hedge") ∈ lw_all := lw_g (lw_at lw_m8 9 rfl) rfl
theorem q1830 : (Jvm.Cond.laysFinal "WeatherWagesModel" "WeatherWagesModel" "purseTold" "[I") ∈ lw_all := lw_g (lw_at lw_m8 10 rfl) rfl
theorem q1831 : (Jvm.Cond.soleField "WeatherWagesModel" "purseTold") ∈ lw_all := lw_g (lw_at lw_m8 11 rfl) rfl
theorem q1832 : (Jvm.Cond.laysFinal "WeatherWagesModel" "WeatherWagesModel" "payTold" "[I") ∈ lw_all := lw_g (lw_at lw_m8 12 rfl) rfl
theorem q1833 : (Jvm.Cond.soleField "WeatherWagesModel" "payTold") ∈ lw_all := lw_g (lw_at lw_m8 13 rfl) rfl
theorem q1834 : (Jvm.Cond.laysFinal "WeatherWagesModel" "WeatherWagesModel" "isPurse" "[I") ∈ lw_all := lw_g (lw_at lw_m8 14 rfl) rfl
theorem q1835 : (Jvm.Cond.soleField "WeatherWagesModel" "isPurse") ∈ lw_all := lw_g (lw_at lw_m8 15 rfl) rfl
theorem q1836 : (Jvm.Cond.laysFinal "WeatherWagesModel" "WeatherWagesModel" "isPay" "[I") ∈ lw_all := lw_g (lw_at lw_m8 16 rfl) rfl
theorem q1837 : (Jvm.Cond.soleField "WeatherWagesModel" "isPay") ∈ lw_all := lw_g (lw_at lw_m8 17 rfl) rfl
theorem q1838 : (Jvm.Cond.laysFinal "WeatherWagesModel" "WeatherWagesModel" "rateOf" "[I") ∈ lw_all := lw_g (lw_at lw_m8 18 rfl) rfl
theorem q1839 : (Jvm.Cond.soleField "WeatherWagesModel" "rateOf") ∈ lw_all := lw_g (lw_at lw_m8 19 rfl) rfl
theorem q1840 : (Jvm.Cond.laysFinal "WeatherWagesModel" "WeatherWagesModel" "rateFor" "[I") ∈ lw_all := lw_g (lw_at lw_m8 20 rfl) rfl
theorem q1841 : (Jvm.Cond.soleField "WeatherWagesModel" "rateFor") ∈ lw_all := lw_g (lw_at lw_m8 21 rfl) rfl
theorem q1842 : (Jvm.Cond.laysFinal "WeatherWagesModel" "WeatherWagesModel" "book" "[I") ∈ lw_all := lw_g (lw_at lw_m8 22 rfl) rfl
theorem q1843 : (Jvm.Cond.soleField "WeatherWagesModel" "book") ∈ lw_all := lw_g (lw_at lw_m8 23 rfl) rfl
theorem q1844 : (Jvm.Cond.laysFinal "WeatherWagesModel" "WeatherWagesModel" "ruleFrom" "[I") ∈ lw_all := lw_g (lw_at lw_m8 24 rfl) rfl
theorem q1845 : (Jvm.Cond.soleField "WeatherWagesModel" "ruleFrom") ∈ lw_all := lw_g (lw_at lw_m8 25 rfl) rfl
theorem q1846 : (Jvm.Cond.laysFinal "WeatherWagesModel" "WeatherWagesModel" "ruleTo" "[I") ∈ lw_all := lw_g (lw_at lw_m8 26 rfl) rfl
theorem q1847 : (Jvm.Cond.soleField "WeatherWagesModel" "ruleTo") ∈ lw_all := lw_g (lw_at lw_m8 27 rfl) rfl
theorem q1848 : (Jvm.Cond.laysFinal "WeatherWagesModel" "WeatherWagesModel" "hasGrow" "[Z") ∈ lw_all := lw_g (lw_at lw_m8 28 rfl) rfl
theorem q1849 : (Jvm.Cond.soleField "WeatherWagesModel" "hasGrow") ∈ lw_all := lw_g (lw_at lw_m8 29 rfl) rfl
theorem q1850 : (Jvm.Cond.laysFinal "WeatherWagesModel" "WeatherWagesModel" "hasHours" "[Z") ∈ lw_all := lw_g (lw_at lw_m8 30 rfl) rfl
theorem q1851 : (Jvm.Cond.soleField "WeatherWagesModel" "hasHours") ∈ lw_all := lw_g (lw_at lw_m8 31 rfl) rfl
theorem q1852 : (Jvm.Cond.laysFinal "WeatherWagesModel" "WeatherWagesModel" "isDraw" "[Z") ∈ lw_all := lw_g (lw_at lw_m8 32 rfl) rfl
theorem q1853 : (Jvm.Cond.soleField "WeatherWagesModel" "isDraw") ∈ lw_all := lw_g (lw_at lw_m8 33 rfl) rfl
theorem q1854 : (Jvm.Cond.laysFinal "WeatherWagesModel" "WeatherWagesModel" "kName" "[J") ∈ lw_all := lw_g (lw_at lw_m8 34 rfl) rfl
theorem q1855 : (Jvm.Cond.soleField "WeatherWagesModel" "kName") ∈ lw_all := lw_g (lw_at lw_m8 35 rfl) rfl
theorem q1856 : (Jvm.Cond.laysFinal "WeatherWagesModel" "WeatherWagesModel" "mName" "[J") ∈ lw_all := lw_g (lw_at lw_m8 36 rfl) rfl
theorem q1857 : (Jvm.Cond.soleField "WeatherWagesModel" "mName") ∈ lw_all := lw_g (lw_at lw_m8 37 rfl) rfl
theorem q1858 : (Jvm.Cond.laysFinal "WeatherWagesModel" "WeatherWagesModel" "code" "[I") ∈ lw_all := lw_g (lw_at lw_m8 38 rfl) rfl
theorem q1859 : (Jvm.Cond.soleField "WeatherWagesModel" "code") ∈ lw_all := lw_g (lw_at lw_m8 39 rfl) rfl
theorem q1860 : (Jvm.Cond.laysFinal "WeatherWagesModel" "WeatherWagesModel" "codeNumber" "[I") ∈ lw_all := lw_g (lw_at lw_m8 40 rfl) rfl
theorem q1861 : (Jvm.Cond.soleField "WeatherWagesModel" "codeNumber") ∈ lw_all := lw_g (lw_at lw_m8 41 rfl) rfl
theorem q1862 : (Jvm.Cond.laysFinal "WeatherWagesModel" "WeatherWagesModel" "eWhat" "[I") ∈ lw_all := lw_g (lw_at lw_m8 42 rfl) rfl
theorem q1863 : (Jvm.Cond.soleField "WeatherWagesModel" "eWhat") ∈ lw_all := lw_g (lw_at lw_m8 43 rfl) rfl
theorem q1864 : (Jvm.Cond.laysFinal "WeatherWagesModel" "WeatherWagesModel" "eSign" "[I") ∈ lw_all := lw_g (lw_at lw_m8 44 rfl) rfl
theorem q1865 : (Jvm.Cond.soleField "WeatherWagesModel" "eSign") ∈ lw_all := lw_g (lw_at lw_m8 45 rfl) rfl
theorem q1866 : (Jvm.Cond.laysFinal "WeatherWagesModel" "WeatherWagesModel" "pile" "[I") ∈ lw_all := lw_g (lw_at lw_m8 46 rfl) rfl
theorem q1867 : (Jvm.Cond.soleField "WeatherWagesModel" "pile") ∈ lw_all := lw_g (lw_at lw_m8 47 rfl) rfl
theorem q1868 : (Jvm.Cond.lays "WeatherWagesModel" "WeatherWagesModel" "bank" "I") ∈ lw_all := lw_g (lw_at lw_m8 48 rfl) rfl
theorem q1869 : (Jvm.Cond.soleField "WeatherWagesModel" "bank") ∈ lw_all := lw_g (lw_at lw_m8 49 rfl) rfl
theorem q1870 : (Jvm.Cond.lays "WeatherWagesModel" "WeatherWagesModel" "rb" "I") ∈ lw_all := lw_g (lw_at lw_m8 50 rfl) rfl
theorem q1871 : (Jvm.Cond.soleField "WeatherWagesModel" "rb") ∈ lw_all := lw_g (lw_at lw_m8 51 rfl) rfl
theorem q1872 : (Jvm.Cond.lays "WeatherWagesModel" "WeatherWagesModel" "codes" "I") ∈ lw_all := lw_g (lw_at lw_m8 52 rfl) rfl
theorem q1873 : (Jvm.Cond.soleField "WeatherWagesModel" "codes") ∈ lw_all := lw_g (lw_at lw_m8 53 rfl) rfl
theorem q1874 : (Jvm.Cond.lays "WeatherWagesModel" "WeatherWagesModel" "within" "I") ∈ lw_all := lw_g (lw_at lw_m8 54 rfl) rfl
theorem q1875 : (Jvm.Cond.soleField "WeatherWagesModel" "within") ∈ lw_all := lw_g (lw_at lw_m8 55 rfl) rfl
theorem q1876 : (Jvm.Cond.lays "WeatherWagesModel" "WeatherWagesModel" "piled" "I") ∈ lw_all := lw_g (lw_at lw_m8 56 rfl) rfl
theorem q1877 : (Jvm.Cond.soleField "WeatherWagesModel" "piled") ∈ lw_all := lw_g (lw_at lw_m8 57 rfl) rfl
theorem q1878 : (Jvm.Cond.lays "WeatherWagesModel" "WeatherWagesModel" "unitsInRule" "I") ∈ lw_all := lw_g (lw_at lw_m8 58 rfl) rfl
theorem q1879 : (Jvm.Cond.soleField "WeatherWagesModel" "unitsInRule") ∈ lw_all := lw_g (lw_at lw_m8 59 rfl) rfl
theorem q1880 : (Jvm.Cond.lays "WeatherWagesModel" "WeatherWagesModel" "askMan" "I") ∈ lw_all := lw_g (lw_at lw_m8 60 rfl) rfl
theorem q1881 : (Jvm.Cond.soleField "WeatherWagesModel" "askMan") ∈ lw_all := lw_g (lw_at lw_m8 61 rfl) rfl
theorem q1882 : (Jvm.Cond.laysFinal "WeatherWagesModel" "WeatherWagesModel" "all" "[I") ∈ lw_all := lw_g (lw_at lw_m8 62 rfl) rfl
theorem q1883 : (Jvm.Cond.soleField "WeatherWagesModel" "all") ∈ lw_all := lw_g (lw_at lw_m8 63 rfl) rfl
theorem q1884 : (Jvm.Cond.laysFinal "WeatherWagesModel" "WeatherWagesModel" "was" "[I") ∈ lw_all := lw_g (lw_at lw_m8 64 rfl) rfl
theorem q1885 : (Jvm.Cond.soleField "WeatherWagesModel" "was") ∈ lw_all := lw_g (lw_at lw_m8 65 rfl) rfl
theorem q1886 : (Jvm.Cond.lays "WeatherWagesModel" "WeatherWagesModel" "acts" "I") ∈ lw_all := lw_g (lw_at lw_m8 66 rfl) rfl
theorem q1887 : (Jvm.Cond.soleField "WeatherWagesModel" "acts") ∈ lw_all := lw_g (lw_at lw_m8 67 rfl) rfl
theorem q1888 : (Jvm.Cond.lays "WeatherWagesModel" "WeatherWagesModel" "undone" "I") ∈ lw_all := lw_g (lw_at lw_m8 68 rfl) rfl
theorem q1889 : (Jvm.Cond.soleField "WeatherWagesModel" "undone") ∈ lw_all := lw_g (lw_at lw_m8 69 rfl) rfl
theorem q1890 : (Jvm.Cond.laysFinal "WeatherWagesModel" "WeatherWagesModel" "row" "[I") ∈ lw_all := lw_g (lw_at lw_m8 70 rfl) rfl
theorem q1891 : (Jvm.Cond.soleField "WeatherWagesModel" "row") ∈ lw_all := lw_g (lw_at lw_m8 71 rfl) rfl
theorem q1892 : (Jvm.Cond.laysFinal "WeatherWagesModel" "WeatherWagesModel" "bestRow" "[I") ∈ lw_all := lw_g (lw_at lw_m8 72 rfl) rfl
theorem q1893 : (Jvm.Cond.soleField "WeatherWagesModel" "bestRow") ∈ lw_all := lw_g (lw_at lw_m8 73 rfl) rfl
theorem q1894 : (Jvm.Cond.laysFinal "WeatherWagesModel" "WeatherWagesModel" "laidRow" "[I") ∈ lw_all := lw_g (lw_at lw_m8 74 rfl) rfl
theorem q1895 : (Jvm.Cond.soleField "WeatherWagesModel" "laidRow") ∈ lw_all := lw_g (lw_at lw_m8 75 rfl) rfl
theorem q1896 : (Jvm.Cond.lays "WeatherWagesModel" "WeatherWagesModel" "laid" "I") ∈ lw_all := lw_g (lw_at lw_m8 76 rfl) rfl
theorem q1897 : (Jvm.Cond.soleField "WeatherWagesModel" "laid") ∈ lw_all := lw_g (lw_at lw_m8 77 rfl) rfl
theorem q1898 : (Jvm.Cond.lays "WeatherWagesModel" "WeatherWagesModel" "bestHours" "I") ∈ lw_all := lw_g (lw_at lw_m8 78 rfl) rfl
theorem q1899 : (Jvm.Cond.soleField "WeatherWagesModel" "bestHours") ∈ lw_all := lw_g (lw_at lw_m8 79 rfl) rfl
theorem q1900 : (Jvm.Cond.lays "WeatherWagesModel" "WeatherWagesModel" "bestGrowth" "I") ∈ lw_all := lw_g (lw_at lw_m8 80 rfl) rfl
theorem q1901 : (Jvm.Cond.soleField "WeatherWagesModel" "bestGrowth") ∈ lw_all := lw_g (lw_at lw_m8 81 rfl) rfl
theorem q1902 : (Jvm.Cond.laysFinal "WeatherWagesModel" "WeatherWagesModel" "mostOf" "[I") ∈ lw_all := lw_g (lw_at lw_m8 82 rfl) rfl
theorem q1903 : (Jvm.Cond.soleField "WeatherWagesModel" "mostOf") ∈ lw_all := lw_g (lw_at lw_m8 83 rfl) rfl
theorem q1904 : (Jvm.Cond.laysFinal "WeatherWagesModel" "WeatherWagesModel" "firstRow" "[I") ∈ lw_all := lw_g (lw_at lw_m8 84 rfl) rfl
theorem q1905 : (Jvm.Cond.soleField "WeatherWagesModel" "firstRow") ∈ lw_all := lw_g (lw_at lw_m8 85 rfl) rfl
theorem q1906 : (Jvm.Cond.laysFinal "WeatherWagesModel" "WeatherWagesModel" "bothOf" "[I") ∈ lw_all := lw_g (lw_at lw_m8 86 rfl) rfl
theorem q1907 : (Jvm.Cond.soleField "WeatherWagesModel" "bothOf") ∈ lw_all := lw_g (lw_at lw_m8 87 rfl) rfl
theorem q1908 : (Jvm.Cond.laysFinal "WeatherWagesModel" "WeatherWagesModel" "restOf" "[I") ∈ lw_all := lw_g (lw_at lw_m8 88 rfl) rfl
theorem q1909 : (Jvm.Cond.soleField "WeatherWagesModel" "restOf") ∈ lw_all := lw_g (lw_at lw_m8 89 rfl) rfl
theorem q1910 : (Jvm.Cond.lays "WeatherWagesModel" "WeatherWagesModel" "poolHours" "I") ∈ lw_all := lw_g (lw_at lw_m8 90 rfl) rfl
theorem q1911 : (Jvm.Cond.soleField "WeatherWagesModel" "poolHours") ∈ lw_all := lw_g (lw_at lw_m8 91 rfl) rfl
theorem q1912 : (Jvm.Cond.lays "WeatherWagesModel" "WeatherWagesModel" "poolGrowth" "I") ∈ lw_all := lw_g (lw_at lw_m8 92 rfl) rfl
theorem q1913 : (Jvm.Cond.soleField "WeatherWagesModel" "poolGrowth") ∈ lw_all := lw_g (lw_at lw_m8 93 rfl) rfl
theorem q1914 : (Jvm.Cond.laysFinal "WeatherWagesModel" "WeatherWagesModel" "kept" "[I") ∈ lw_all := lw_g (lw_at lw_m8 94 rfl) rfl
theorem q1915 : (Jvm.Cond.soleField "WeatherWagesModel" "kept") ∈ lw_all := lw_g (lw_at lw_m8 95 rfl) rfl
theorem q1916 : (Jvm.Cond.laysFinal "WeatherWagesModel" "WeatherWagesModel" "laidKept" "[I") ∈ lw_all := lw_g (lw_at lw_m8 96 rfl) rfl
theorem q1917 : (Jvm.Cond.soleField "WeatherWagesModel" "laidKept") ∈ lw_all := lw_g (lw_at lw_m8 97 rfl) rfl
theorem q1918 : (Jvm.Cond.laysFinal "WeatherWagesModel" "WeatherWagesModel" "spends" "[I") ∈ lw_all := lw_g (lw_at lw_m8 98 rfl) rfl
theorem q1919 : (Jvm.Cond.soleField "WeatherWagesModel" "spends") ∈ lw_all := lw_g (lw_at lw_m8 99 rfl) rfl
theorem q1920 : (Jvm.Cond.lays "WeatherWagesModel" "WeatherWagesModel" "gainUpper" "I") ∈ lw_all := lw_g (lw_at lw_m8 100 rfl) rfl
theorem q1921 : (Jvm.Cond.soleField "WeatherWagesModel" "gainUpper") ∈ lw_all := lw_g (lw_at lw_m8 101 rfl) rfl
theorem q1922 : (Jvm.Cond.lays "WeatherWagesModel" "WeatherWagesModel" "gainLower" "I") ∈ lw_all := lw_g (lw_at lw_m8 102 rfl) rfl
theorem q1923 : (Jvm.Cond.soleField "WeatherWagesModel" "gainLower") ∈ lw_all := lw_g (lw_at lw_m8 103 rfl) rfl
theorem q1924 : (Jvm.Cond.lays "WeatherWagesModel" "WeatherWagesModel" "gainRound" "I") ∈ lw_all := lw_g (lw_at lw_m8 104 rfl) rfl
theorem q1925 : (Jvm.Cond.soleField "WeatherWagesModel" "gainRound") ∈ lw_all := lw_g (lw_at lw_m8 105 rfl) rfl
theorem q1926 : (Jvm.Cond.laysFinal "WeatherWagesModel" "WeatherWagesModel" "sMan" "[I") ∈ lw_all := lw_g (lw_at lw_m8 106 rfl) rfl
theorem q1927 : (Jvm.Cond.soleField "WeatherWagesModel" "sMan") ∈ lw_all := lw_g (lw_at lw_m8 107 rfl) rfl
theorem q1928 : (Jvm.Cond.laysFinal "WeatherWagesModel" "WeatherWagesModel" "sOther" "[I") ∈ lw_all := lw_g (lw_at lw_m8 108 rfl) rfl
theorem q1929 : (Jvm.Cond.soleField "WeatherWagesModel" "sOther") ∈ lw_all := lw_g (lw_at lw_m8 109 rfl) rfl
theorem q1930 : (Jvm.Cond.laysFinal "WeatherWagesModel" "WeatherWagesModel" "sNumber" "[I") ∈ lw_all := lw_g (lw_at lw_m8 110 rfl) rfl
theorem q1931 : (Jvm.Cond.soleField "WeatherWagesModel" "sNumber") ∈ lw_all := lw_g (lw_at lw_m8 111 rfl) rfl
theorem q1932 : (Jvm.Cond.laysFinal "WeatherWagesModel" "WeatherWagesModel" "sIs" "[I") ∈ lw_all := lw_g (lw_at lw_m8 112 rfl) rfl
theorem q1933 : (Jvm.Cond.soleField "WeatherWagesModel" "sIs") ∈ lw_all := lw_g (lw_at lw_m8 113 rfl) rfl
theorem q1934 : (Jvm.Cond.laysFinal "WeatherWagesModel" "WeatherWagesModel" "sTold" "[I") ∈ lw_all := lw_g (lw_at lw_m8 114 rfl) rfl
theorem q1935 : (Jvm.Cond.soleField "WeatherWagesModel" "sTold") ∈ lw_all := lw_g (lw_at lw_m8 115 rfl) rfl
theorem q1936 : (Jvm.Cond.laysFinal "WeatherWagesModel" "WeatherWagesModel" "sUntold" "[I") ∈ lw_all := lw_g (lw_at lw_m8 116 rfl) rfl
theorem q1937 : (Jvm.Cond.soleField "WeatherWagesModel" "sUntold") ∈ lw_all := lw_g (lw_at lw_m8 117 rfl) rfl
theorem q1938 : (Jvm.Cond.laysFinal "WeatherWagesModel" "WeatherWagesModel" "bookOf" "[I") ∈ lw_all := lw_g (lw_at lw_m8 118 rfl) rfl
theorem q1939 : (Jvm.Cond.soleField "WeatherWagesModel" "bookOf") ∈ lw_all := lw_g (lw_at lw_m8 119 rfl) rfl
theorem q1940 : (Jvm.Cond.laysFinal "WeatherWagesModel" "WeatherWagesModel" "byBook" "[I") ∈ lw_all := lw_g (lw_at lw_m8 120 rfl) rfl
theorem q1941 : (Jvm.Cond.soleField "WeatherWagesModel" "byBook") ∈ lw_all := lw_g (lw_at lw_m8 121 rfl) rfl
theorem q1942 : (Jvm.Cond.lays "WeatherWagesModel" "WeatherWagesModel" "sights" "I") ∈ lw_all := lw_g (lw_at lw_m8 122 rfl) rfl
theorem q1943 : (Jvm.Cond.soleField "WeatherWagesModel" "sights") ∈ lw_all := lw_g (lw_at lw_m8 123 rfl) rfl
theorem q1944 : (Jvm.Cond.lays "WeatherWagesModel" "WeatherWagesModel" "time" "I") ∈ lw_all := lw_g (lw_at lw_m8 124 rfl) rfl
theorem q1945 : (Jvm.Cond.soleField "WeatherWagesModel" "time") ∈ lw_all := lw_g (lw_at lw_m8 125 rfl) rfl
theorem q1946 : (Jvm.Cond.lays "WeatherWagesModel" "WeatherWagesModel" "fitting" "I") ∈ lw_all := lw_g (lw_at lw_m8 126 rfl) rfl
theorem q1947 : (Jvm.Cond.soleField "WeatherWagesModel" "fitting") ∈ lw_all := lw_g (lw_at lw_m8 127 rfl) rfl
theorem q1948 : (Jvm.Cond.laysFinal "WeatherWagesModel" "WeatherWagesModel" "boxAll" "[I") ∈ lw_all := lw_g (lw_at lw_m8 128 rfl) rfl
theorem q1949 : (Jvm.Cond.soleField "WeatherWagesModel" "boxAll") ∈ lw_all := lw_g (lw_at lw_m8 129 rfl) rfl
theorem q1950 : (Jvm.Cond.laysFinal "WeatherWagesModel" "WeatherWagesModel" "isBoxed" "[Z") ∈ lw_all := lw_g (lw_at lw_m8 130 rfl) rfl
theorem q1951 : (Jvm.Cond.soleField "WeatherWagesModel" "isBoxed") ∈ lw_all := lw_g (lw_at lw_m8 131 rfl) rfl
theorem q1952 : (Jvm.Cond.superclass "WeatherWagesModel" "java/lang/Object") ∈ lw_all := lw_g (lw_at lw_m8 132 rfl) rfl
theorem q1955 : (Jvm.Cond.instanceMethod ({ cls := "WeatherWagesModel", name := "mill", desc := "()I" } : Jvm.MethodName)) ∈ lw_all := lw_g (lw_at lw_m8 135 rfl) rfl
theorem q1956 : (Jvm.Cond.selects "WeatherWagesModel" ({ cls := "WeatherWagesModel", name := "mill", desc := "()I" } : Jvm.MethodName) ({ cls := "WeatherWagesModel", name := "mill", desc := "()I" } : Jvm.MethodName)) ∈ lw_all := lw_g (lw_at lw_m8 136 rfl) rfl
theorem q1957 : (Jvm.Cond.code ({ cls := "WeatherWagesModel", name := "mill", desc := "()I" } : Jvm.MethodName) prog_22_method_17_code (2 : Nat) (Option.some Jvm.ClassFile.FieldType.int)) ∈ lw_all := lw_g (lw_at lw_m8 137 rfl) rfl
theorem q1958 : (Jvm.Cond.methodLink "WeatherWagesModel" (275 : Nat) ({ cls := "WeatherWagesModel", name := "goOn", desc := "()V" } : Jvm.MethodName)) ∈ lw_all := lw_g (lw_at lw_m8 138 rfl) rfl
theorem q1959 : (Jvm.Cond.privateMethod ({ cls := "WeatherWagesModel", name := "goOn", desc := "()V" } : Jvm.MethodName)) ∈ lw_tbl := lw_at lw_m8 139 rfl
theorem q1960 : (Jvm.Cond.instanceMethod ({ cls := "WeatherWagesModel", name := "goOn", desc := "()V" } : Jvm.MethodName)) ∈ lw_all := lw_g (lw_at lw_m8 140 rfl) rfl
theorem q1961 : (Jvm.Cond.code ({ cls := "WeatherWagesModel", name := "goOn", desc := "()V" } : Jvm.MethodName) prog_22_method_9_code (3 : Nat) (Option.none : Option Jvm.ClassFile.FieldType)) ∈ lw_all := lw_g (lw_at lw_m8 141 rfl) rfl
theorem q1962 : (Jvm.Cond.methodLink "WeatherWagesModel" (239 : Nat) ({ cls := "WeatherWagesModel", name := "sign", desc := "(I)I" } : Jvm.MethodName)) ∈ lw_all := lw_g (lw_at lw_m8 142 rfl) rfl
theorem q1963 : (Jvm.Cond.privateMethod ({ cls := "WeatherWagesModel", name := "sign", desc := "(I)I" } : Jvm.MethodName)) ∈ lw_tbl := lw_at lw_m8 143 rfl
theorem q1964 : (Jvm.Cond.instanceMethod ({ cls := "WeatherWagesModel", name := "sign", desc := "(I)I" } : Jvm.MethodName)) ∈ lw_all := lw_g (lw_at lw_m8 144 rfl) rfl
theorem q1965 : (Jvm.Cond.code ({ cls := "WeatherWagesModel", name := "sign", desc := "(I)I" } : Jvm.MethodName) prog_22_method_2_code (2 : Nat) (Option.some Jvm.ClassFile.FieldType.int)) ∈ lw_all := lw_g (lw_at lw_m8 145 rfl) rfl
theorem q1966 : (Jvm.Cond.methodLink "WeatherWagesModel" (246 : Nat) ({ cls := "WeatherWagesModel", name := "isLetter", desc := "(I)Z" } : Jvm.MethodName)) ∈ lw_all := lw_g (lw_at lw_m8 146 rfl) rfl
theorem q1967 : (Jvm.Cond.static ({ cls := "WeatherWagesModel", name := "isLetter", desc := "(I)Z" } : Jvm.MethodName)) ∈ lw_all := lw_g (lw_at lw_m8 147 rfl) rfl
theorem q1968 : (Jvm.Cond.code ({ cls := "WeatherWagesModel", name := "isLetter", desc := "(I)Z" } : Jvm.MethodName) prog_22_method_3_code (1 : Nat) (Option.some Jvm.ClassFile.FieldType.boolean)) ∈ lw_all := lw_g (lw_at lw_m8 148 rfl) rfl
theorem q1969 : (Jvm.Cond.methodLink "WeatherWagesModel" (254 : Nat) ({ cls := "WeatherWagesModel", name := "isKept", desc := "(J)Z" } : Jvm.MethodName)) ∈ lw_all := lw_g (lw_at lw_m8 149 rfl) rfl
theorem q1970 : (Jvm.Cond.static ({ cls := "WeatherWagesModel", name := "isKept", desc := "(J)Z" } : Jvm.MethodName)) ∈ lw_all := lw_g (lw_at lw_m8 150 rfl) rfl
theorem q1971 : (Jvm.Cond.code ({ cls := "WeatherWagesModel", name := "isKept", desc := "(J)Z" } : Jvm.MethodName) prog_22_method_7_code (3 : Nat) (Option.some Jvm.ClassFile.FieldType.boolean)) ∈ lw_all := lw_g (lw_at lw_m8 151 rfl) rfl
theorem q1972 : (Jvm.Cond.constantLong "WeatherWagesModel" (191 : Nat) (1802071652 : Int64)) ∈ lw_all := lw_g (lw_at lw_m8 152 rfl) rfl
theorem q1973 : (Jvm.Cond.constantLong "WeatherWagesModel" (193 : Nat) (7168366 : Int64)) ∈ lw_all := lw_g (lw_at lw_m8 153 rfl) rfl
theorem q1974 : (Jvm.Cond.constantLong "WeatherWagesModel" (195 : Nat) (1668444016 : Int64)) ∈ lw_all := lw_g (lw_at lw_m8 154 rfl) rfl
theorem q1975 : (Jvm.Cond.constantLong "WeatherWagesModel" (197 : Nat) (465726042981 : Int64)) ∈ lw_all := lw_g (lw_at lw_m8 155 rfl) rfl
theorem q1976 : (Jvm.Cond.constantLong "WeatherWagesModel" (199 : Nat) (483006772069 : Int64)) ∈ lw_all := lw_g (lw_at lw_m8 156 rfl) rfl
theorem q1977 : (Jvm.Cond.constantLong "WeatherWagesModel" (201 : Nat) (7364985 : Int64)) ∈ lw_all := lw_g (lw_at lw_m8 157 rfl) rfl
theorem q1978 : (Jvm.Cond.constantLong "WeatherWagesModel" (203 : Nat) (448377677669 : Int64)) ∈ lw_all := lw_g (lw_at lw_m8 158 rfl) rfl
theorem q1979 : (Jvm.Cond.constantLong "WeatherWagesModel" (205 : Nat) (1918989413 : Int64)) ∈ lw_all := lw_g (lw_at lw_m8 159 rfl) rfl
theorem q1980 : (Jvm.Cond.constantLong "WeatherWagesModel" (207 : Nat) (6713202 : Int64)) ∈ lw_all := lw_g (lw_at lw_m8 160 rfl) rfl
theorem q1981 : (Jvm.Cond.constantLong "WeatherWagesModel" (209 : Nat) (1651470187 : Int64)) ∈ lw_all := lw_g (lw_at lw_m8 161 rfl) rfl
theorem q1982 : (Jvm.Cond.constantLong "WeatherWagesModel" (211 : Nat) (1735552887 : Int64)) ∈ lw_all := lw_g (lw_at lw_m8 162 rfl) rfl
theorem q1983 : (Jvm.Cond.constantLong "WeatherWagesModel" (213 : Nat) (448546566771 : Int64)) ∈ lw_all := lw_g (lw_at lw_m8 163 rfl) rfl
theorem q1984 : (Jvm.Cond.constantLong "WeatherWagesModel" (215 : Nat) (1685217655 : Int64)) ∈ lw_all := lw_g (lw_at lw_m8 164 rfl) rfl
theorem q1985 : (Jvm.Cond.constantLong "WeatherWagesModel" (217 : Nat) (439855772532 : Int64)) ∈ lw_all := lw_g (lw_at lw_m8 165 rfl) rfl
theorem q1986 : (Jvm.Cond.constantLong "WeatherWagesModel" (219 : Nat) (126879297138276 : Int64)) ∈ lw_all := lw_g (lw_at lw_m8 166 rfl) rfl
theorem q1987 : (Jvm.Cond.constantLong "WeatherWagesModel" (221 : Nat) (499967947364 : Int64)) ∈ lw_all := lw_g (lw_at lw_m8 167 rfl) rfl
theorem q1988 : (Jvm.Cond.constantLong "WeatherWagesModel" (223 : Nat) (2003133803 : Int64)) ∈ lw_all := lw_g (lw_at lw_m8 168 rfl) rfl
theorem q1989 : (Jvm.Cond.constantLong "WeatherWagesModel" (225 : Nat) (1886154612 : Int64)) ∈ lw_all := lw_g (lw_at lw_m8 169 rfl) rfl
theorem q1990 : (Jvm.Cond.constantLong "WeatherWagesModel" (227 : Nat) (28530 : Int64)) ∈ lw_all := lw_g (lw_at lw_m8 170 rfl) rfl
theorem q1991 : (Jvm.Cond.constantLong "WeatherWagesModel" (229 : Nat) (6385252 : Int64)) ∈ lw_all := lw_g (lw_at lw_m8 171 rfl) rfl
theorem q1992 : (Jvm.Cond.constantLong "WeatherWagesModel" (231 : Nat) (7237492 : Int64)) ∈ lw_all := lw_g (lw_at lw_m8 172 rfl) rfl
theorem q1993 : (Jvm.Cond.methodLink "WeatherWagesModel" (258 : Nat) ({ cls := "WeatherWagesModel", name := "isDigit", desc := "(I)Z" } : Jvm.MethodName)) ∈ lw_all := lw_g (lw_at lw_m8 173 rfl) rfl
theorem q1994 : (Jvm.Cond.static ({ cls := "WeatherWagesModel", name := "isDigit", desc := "(I)Z" } : Jvm.MethodName)) ∈ lw_all := lw_g (lw_at lw_m8 174 rfl) rfl
theorem q1995 : (Jvm.Cond.code ({ cls := "WeatherWagesModel", name := "isDigit", desc := "(I)Z" } : Jvm.MethodName) prog_22_method_4_code (1 : Nat) (Option.some Jvm.ClassFile.FieldType.boolean)) ∈ lw_all := lw_g (lw_at lw_m8 175 rfl) rfl
theorem q1996 : (Jvm.Cond.methodLink "WeatherWagesModel" (264 : Nat) ({ cls := "WeatherWagesModel", name := "isSign", desc := "(I)Z" } : Jvm.MethodName)) ∈ lw_all := lw_g (lw_at lw_m8 176 rfl) rfl
theorem q1997 : (Jvm.Cond.static ({ cls := "WeatherWagesModel", name := "isSign", desc := "(I)Z" } : Jvm.MethodName)) ∈ lw_all := lw_g (lw_at lw_m8 177 rfl) rfl
theorem q1998 : (Jvm.Cond.code ({ cls := "WeatherWagesModel", name := "isSign", desc := "(I)Z" } : Jvm.MethodName) prog_22_method_8_code (1 : Nat) (Option.some Jvm.ClassFile.FieldType.boolean)) ∈ lw_all := lw_g (lw_at lw_m8 178 rfl) rfl
theorem q1999 : (Jvm.Cond.methodLink "WeatherWagesModel" (271 : Nat) ({ cls := "WeatherWagesModel", name := "isGood", desc := "()Z" } : Jvm.MethodName)) ∈ lw_all := lw_g (lw_at lw_m8 179 rfl) rfl
theorem q2000 : (Jvm.Cond.privateMethod ({ cls := "WeatherWagesModel", name := "isGood", desc := "()Z" } : Jvm.MethodName)) ∈ lw_tbl := lw_at lw_m8 180 rfl
theorem q2001 : (Jvm.Cond.instanceMethod ({ cls := "WeatherWagesModel", name := "isGood", desc := "()Z" } : Jvm.MethodName)) ∈ lw_all := lw_g (lw_at lw_m8 181 rfl) rfl
theorem q2002 : (Jvm.Cond.code ({ cls := "WeatherWagesModel", name := "isGood", desc := "()Z" } : Jvm.MethodName) prog_22_method_6_code (1 : Nat) (Option.some Jvm.ClassFile.FieldType.boolean)) ∈ lw_all := lw_g (lw_at lw_m8 182 rfl) rfl
theorem q2003 : (Jvm.Cond.methodLink "WeatherWagesModel" (304 : Nat) ({ cls := "WeatherWagesModel", name := "readLine", desc := "()V" } : Jvm.MethodName)) ∈ lw_all := lw_g (lw_at lw_m8 183 rfl) rfl
theorem q2004 : (Jvm.Cond.privateMethod ({ cls := "WeatherWagesModel", name := "readLine", desc := "()V" } : Jvm.MethodName)) ∈ lw_tbl := lw_at lw_m8 184 rfl
theorem q2005 : (Jvm.Cond.instanceMethod ({ cls := "WeatherWagesModel", name := "readLine", desc := "()V" } : Jvm.MethodName)) ∈ lw_all := lw_g (lw_at lw_m8 185 rfl) rfl
theorem q2006 : (Jvm.Cond.code ({ cls := "WeatherWagesModel", name := "readLine", desc := "()V" } : Jvm.MethodName) prog_22_method_19_code (3 : Nat) (Option.none : Option Jvm.ClassFile.FieldType)) ∈ lw_all := lw_g (lw_at lw_m8 186 rfl) rfl
theorem q2007 : (Jvm.Cond.methodLink "WeatherWagesModel" (307 : Nat) ({ cls := "WeatherWagesModel", name := "isFull", desc := "()Z" } : Jvm.MethodName)) ∈ lw_all := lw_g (lw_at lw_m8 187 rfl) rfl
theorem q2008 : (Jvm.Cond.privateMethod ({ cls := "WeatherWagesModel", name := "isFull", desc := "()Z" } : Jvm.MethodName)) ∈ lw_tbl := lw_at lw_m8 188 rfl
theorem q2009 : (Jvm.Cond.instanceMethod ({ cls := "WeatherWagesModel", name := "isFull", desc := "()Z" } : Jvm.MethodName)) ∈ lw_all := lw_g (lw_at lw_m8 189 rfl) rfl
theorem q2010 : (Jvm.Cond.code ({ cls := "WeatherWagesModel", name := "isFull", desc := "()Z" } : Jvm.MethodName) prog_22_method_18_code (1 : Nat) (Option.some Jvm.ClassFile.FieldType.boolean)) ∈ lw_all := lw_g (lw_at lw_m8 190 rfl) rfl
theorem q2011 : (Jvm.Cond.methodLink "WeatherWagesModel" (281 : Nat) ({ cls := "WeatherWagesModel", name := "isWord", desc := "(J)Z" } : Jvm.MethodName)) ∈ lw_all := lw_g (lw_at lw_m8 191 rfl) rfl
theorem q2012 : (Jvm.Cond.privateMethod ({ cls := "WeatherWagesModel", name := "isWord", desc := "(J)Z" } : Jvm.MethodName)) ∈ lw_tbl := lw_at lw_m8 192 rfl
theorem q2013 : (Jvm.Cond.instanceMethod ({ cls := "WeatherWagesModel", name := "isWord", desc := "(J)Z" } : Jvm.MethodName)) ∈ lw_all := lw_g (lw_at lw_m8 193 rfl) rfl
theorem q2014 : (Jvm.Cond.code ({ cls := "WeatherWagesModel", name := "isWord", desc := "(J)Z" } : Jvm.MethodName) prog_22_method_11_code (3 : Nat) (Option.some Jvm.ClassFile.FieldType.boolean)) ∈ lw_all := lw_g (lw_at lw_m8 194 rfl) rfl
theorem q2015 : (Jvm.Cond.methodLink "WeatherWagesModel" (278 : Nat) ({ cls := "WeatherWagesModel", name := "misplaced", desc := "()V" } : Jvm.MethodName)) ∈ lw_all := lw_g (lw_at lw_m8 195 rfl) rfl
theorem q2016 : (Jvm.Cond.privateMethod ({ cls := "WeatherWagesModel", name := "misplaced", desc := "()V" } : Jvm.MethodName)) ∈ lw_tbl := lw_at lw_m8 196 rfl
theorem q2017 : (Jvm.Cond.instanceMethod ({ cls := "WeatherWagesModel", name := "misplaced", desc := "()V" } : Jvm.MethodName)) ∈ lw_all := lw_g (lw_at lw_m8 197 rfl) rfl
theorem q2018 : (Jvm.Cond.code ({ cls := "WeatherWagesModel", name := "misplaced", desc := "()V" } : Jvm.MethodName) prog_22_method_12_code (1 : Nat) (Option.none : Option Jvm.ClassFile.FieldType)) ∈ lw_all := lw_g (lw_at lw_m8 198 rfl) rfl
theorem q2019 : (Jvm.Cond.methodLink "WeatherWagesModel" (267 : Nat) ({ cls := "WeatherWagesModel", name := "fails", desc := "(II)V" } : Jvm.MethodName)) ∈ lw_all := lw_g (lw_at lw_m8 199 rfl) rfl
theorem q2020 : (Jvm.Cond.privateMethod ({ cls := "WeatherWagesModel", name := "fails", desc := "(II)V" } : Jvm.MethodName)) ∈ lw_tbl := lw_at lw_m8 200 rfl
theorem q2021 : (Jvm.Cond.instanceMethod ({ cls := "WeatherWagesModel", name := "fails", desc := "(II)V" } : Jvm.MethodName)) ∈ lw_all := lw_g (lw_at lw_m8 201 rfl) rfl
theorem q2022 : (Jvm.Cond.code ({ cls := "WeatherWagesModel", name := "fails", desc := "(II)V" } : Jvm.MethodName) prog_22_method_5_code (3 : Nat) (Option.none : Option Jvm.ClassFile.FieldType)) ∈ lw_all := lw_g (lw_at lw_m8 202 rfl) rfl
theorem q2023 : (Jvm.Cond.methodLink "WeatherWagesModel" (310 : Nat) ({ cls := "WeatherWagesModel", name := "kindHere", desc := "()I" } : Jvm.MethodName)) ∈ lw_all := lw_g (lw_at lw_m8 203 rfl) rfl
theorem q2024 : (Jvm.Cond.privateMethod ({ cls := "WeatherWagesModel", name := "kindHere", desc := "()I" } : Jvm.MethodName)) ∈ lw_tbl := lw_at lw_m8 204 rfl
theorem q2025 : (Jvm.Cond.instanceMethod ({ cls := "WeatherWagesModel", name := "kindHere", desc := "()I" } : Jvm.MethodName)) ∈ lw_all := lw_g (lw_at lw_m8 205 rfl) rfl
theorem q2026 : (Jvm.Cond.code ({ cls := "WeatherWagesModel", name := "kindHere", desc := "()I" } : Jvm.MethodName) prog_22_method_21_code (1 : Nat) (Option.some Jvm.ClassFile.FieldType.int)) ∈ lw_all := lw_g (lw_at lw_m8 206 rfl) rfl
theorem q2027 : (Jvm.Cond.methodLink "WeatherWagesModel" (338 : Nat) ({ cls := "WeatherWagesModel", name := "here", desc := "([JII)I" } : Jvm.MethodName)) ∈ lw_all := lw_g (lw_at lw_m8 207 rfl) rfl
theorem q2028 : (Jvm.Cond.privateMethod ({ cls := "WeatherWagesModel", name := "here", desc := "([JII)I" } : Jvm.MethodName)) ∈ lw_tbl := lw_at lw_m8 208 rfl
theorem q2029 : (Jvm.Cond.instanceMethod ({ cls := "WeatherWagesModel", name := "here", desc := "([JII)I" } : Jvm.MethodName)) ∈ lw_all := lw_g (lw_at lw_m8 209 rfl) rfl
theorem q2030 : (Jvm.Cond.code ({ cls := "WeatherWagesModel", name := "here", desc := "([JII)I" } : Jvm.MethodName) prog_22_method_20_code (5 : Nat) (Option.some Jvm.ClassFile.FieldType.int)) ∈ lw_all := lw_g (lw_at lw_m8 210 rfl) rfl
theorem q2031 : (Jvm.Cond.methodLink "WeatherWagesModel" (314 : Nat) ({ cls := "WeatherWagesModel", name := "fresh", desc := "(I)J" } : Jvm.MethodName)) ∈ lw_all := lw_g (lw_at lw_m8 211 rfl) rfl
theorem q2032 : (Jvm.Cond.privateMethod ({ cls := "WeatherWagesModel", name := "fresh", desc := "(I)J" } : Jvm.MethodName)) ∈ lw_tbl := lw_at lw_m8 212 rfl
theorem q2033 : (Jvm.Cond.instanceMethod ({ cls := "WeatherWagesModel", name := "fresh", desc := "(I)J" } : Jvm.MethodName)) ∈ lw_all := lw_g (lw_at lw_m8 213 rfl) rfl
theorem q2034 : (Jvm.Cond.code ({ cls := "WeatherWagesModel", name := "fresh", desc := "(I)J" } : Jvm.MethodName) prog_22_method_23_code (4 : Nat) (Option.some Jvm.ClassFile.FieldType.long)) ∈ lw_all := lw_g (lw_at lw_m8 214 rfl) rfl
theorem q2035 : (Jvm.Cond.methodLink "WeatherWagesModel" (318 : Nat) ({ cls := "WeatherWagesModel", name := "readMan", desc := "()V" } : Jvm.MethodName)) ∈ lw_all := lw_g (lw_at lw_m8 215 rfl) rfl
theorem q2036 : (Jvm.Cond.privateMethod ({ cls := "WeatherWagesModel", name := "readMan", desc := "()V" } : Jvm.MethodName)) ∈ lw_tbl := lw_at lw_m8 216 rfl
theorem q2037 : (Jvm.Cond.instanceMethod ({ cls := "WeatherWagesModel", name := "readMan", desc := "()V" } : Jvm.MethodName)) ∈ lw_all := lw_g (lw_at lw_m8 217 rfl) rfl
theorem q2038 : (Jvm.Cond.code ({ cls := "WeatherWagesModel", name := "readMan", desc := "()V" } : Jvm.MethodName) prog_22_method_25_code (3 : Nat) (Option.none : Option Jvm.ClassFile.FieldType)) ∈ lw_all := lw_g (lw_at lw_m8 218 rfl) rfl
theorem q2039 : (Jvm.Cond.methodLink "WeatherWagesModel" (342 : Nat) ({ cls := "WeatherWagesModel", name := "manHere", desc := "()I" } : Jvm.MethodName)) ∈ lw_all := lw_g (lw_at lw_m8 219 rfl) rfl
theorem q2040 : (Jvm.Cond.privateMethod ({ cls := "WeatherWagesModel", name := "manHere", desc := "()I" } : Jvm.MethodName)) ∈ lw_tbl := lw_at lw_m8 220 rfl
theorem q2041 : (Jvm.Cond.instanceMethod ({ cls := "WeatherWagesModel", name := "manHere", desc := "()I" } : Jvm.MethodName)) ∈ lw_all := lw_g (lw_at lw_m8 221 rfl) rfl
theorem q2042 : (Jvm.Cond.code ({ cls := "WeatherWagesModel", name := "manHere", desc := "()I" } : Jvm.MethodName) prog_22_method_22_code (1 : Nat) (Option.some Jvm.ClassFile.FieldType.int)) ∈ lw_all := lw_g (lw_at lw_m8 222 rfl) rfl
theorem q2043 : (Jvm.Cond.methodLink "WeatherWagesModel" (345 : Nat) ({ cls := "WeatherWagesModel", name := "after", desc := "(JII)I" } : Jvm.MethodName)) ∈ lw_all := lw_g (lw_at lw_m8 223 rfl) rfl
theorem q2044 : (Jvm.Cond.privateMethod ({ cls := "WeatherWagesModel", name := "after", desc := "(JII)I" } : Jvm.MethodName)) ∈ lw_tbl := lw_at lw_m8 224 rfl
theorem q2045 : (Jvm.Cond.instanceMethod ({ cls := "WeatherWagesModel", name := "after", desc := "(JII)I" } : Jvm.MethodName)) ∈ lw_all := lw_g (lw_at lw_m8 225 rfl) rfl
theorem q2046 : (Jvm.Cond.code ({ cls := "WeatherWagesModel", name := "after", desc := "(JII)I" } : Jvm.MethodName) prog_22_method_15_code (5 : Nat) (Option.some Jvm.ClassFile.FieldType.int)) ∈ lw_all := lw_g (lw_at lw_m8 226 rfl) rfl
theorem q2047 : (Jvm.Cond.methodLink "WeatherWagesModel" (284 : Nat) ({ cls := "WeatherWagesModel", name := "must", desc := "(Z)V" } : Jvm.MethodName)) ∈ lw_all := lw_g (lw_at lw_m8 227 rfl) rfl
theorem q2048 : (Jvm.Cond.privateMethod ({ cls := "WeatherWagesModel", name := "must", desc := "(Z)V" } : Jvm.MethodName)) ∈ lw_tbl := lw_at lw_m8 228 rfl
theorem q2049 : (Jvm.Cond.instanceMethod ({ cls := "WeatherWagesModel", name := "must", desc := "(Z)V" } : Jvm.MethodName)) ∈ lw_all := lw_g (lw_at lw_m8 229 rfl) rfl
theorem q2050 : (Jvm.Cond.code ({ cls := "WeatherWagesModel", name := "must", desc := "(Z)V" } : Jvm.MethodName) prog_22_method_13_code (2 : Nat) (Option.none : Option Jvm.ClassFile.FieldType)) ∈ lw_all := lw_g (lw_at lw_m8 230 rfl) rfl
theorem q2051 : (Jvm.Cond.methodLink "WeatherWagesModel" (288 : Nat) ({ cls := "WeatherWagesModel", name := "numeral", desc := "(II)I" } : Jvm.MethodName)) ∈ lw_all := lw_g (lw_at lw_m8 231 rfl) rfl
theorem q2052 : (Jvm.Cond.privateMethod ({ cls := "WeatherWagesModel", name := "numeral", desc := "(II)I" } : Jvm.MethodName)) ∈ lw_tbl := lw_at lw_m8 232 rfl
theorem q2053 : (Jvm.Cond.instanceMethod ({ cls := "WeatherWagesModel", name := "numeral", desc := "(II)I" } : Jvm.MethodName)) ∈ lw_all := lw_g (lw_at lw_m8 233 rfl) rfl
theorem q2054 : (Jvm.Cond.code ({ cls := "WeatherWagesModel", name := "numeral", desc := "(II)I" } : Jvm.MethodName) prog_22_method_14_code (4 : Nat) (Option.some Jvm.ClassFile.FieldType.int)) ∈ lw_all := lw_g (lw_at lw_m8 234 rfl) rfl
theorem q2055 : (Jvm.Cond.methodLink "WeatherWagesModel" (321 : Nat) ({ cls := "WeatherWagesModel", name := "readSum", desc := "([I[II)V" } : Jvm.MethodName)) ∈ lw_all := lw_g (lw_at lw_m8 235 rfl) rfl
theorem q2056 : (Jvm.Cond.privateMethod ({ cls := "WeatherWagesModel", name := "readSum", desc := "([I[II)V" } : Jvm.MethodName)) ∈ lw_tbl := lw_at lw_m8 236 rfl
theorem q2057 : (Jvm.Cond.instanceMethod ({ cls := "WeatherWagesModel", name := "readSum", desc := "([I[II)V" } : Jvm.MethodName)) ∈ lw_all := lw_g (lw_at lw_m8 237 rfl) rfl
theorem q2058 : (Jvm.Cond.code ({ cls := "WeatherWagesModel", name := "readSum", desc := "([I[II)V" } : Jvm.MethodName) prog_22_method_26_code (7 : Nat) (Option.none : Option Jvm.ClassFile.FieldType)) ∈ lw_all := lw_g (lw_at lw_m8 238 rfl) rfl
theorem q2059 : (Jvm.Cond.methodLink "WeatherWagesModel" (349 : Nat) ({ cls := "WeatherWagesModel", name := "known", desc := "(I)I" } : Jvm.MethodName)) ∈ lw_all := lw_g (lw_at lw_m8 239 rfl) rfl
theorem q2060 : (Jvm.Cond.privateMethod ({ cls := "WeatherWagesModel", name := "known", desc := "(I)I" } : Jvm.MethodName)) ∈ lw_tbl := lw_at lw_m9 0 rfl
theorem q2061 : (Jvm.Cond.instanceMethod ({ cls := "WeatherWagesModel", name := "known", desc := "(I)I" } : Jvm.MethodName)) ∈ lw_all := lw_g (lw_at lw_m9 1 rfl) rfl
theorem q2062 : (Jvm.Cond.code ({ cls := "WeatherWagesModel", name := "known", desc := "(I)I" } : Jvm.MethodName) prog_22_method_24_code (2 : Nat) (Option.some Jvm.ClassFile.FieldType.int)) ∈ lw_all := lw_g (lw_at lw_m9 2 rfl) rfl
theorem q2063 : (Jvm.Cond.methodLink "WeatherWagesModel" (325 : Nat) ({ cls := "WeatherWagesModel", name := "readHedge", desc := "()V" } : Jvm.MethodName)) ∈ lw_all := lw_g (lw_at lw_m9 3 rfl) rfl
theorem q2064 : (Jvm.Cond.privateMethod ({ cls := "WeatherWagesModel", name := "readHedge", desc := "()V" } : Jvm.MethodName)) ∈ lw_tbl := lw_at lw_m9 4 rfl
theorem q2065 : (Jvm.Cond.instanceMethod ({ cls := "WeatherWagesModel", name := "readHedge", desc := "()V" } : Jvm.MethodName)) ∈ lw_all := lw_g (lw_at lw_m9 5 rfl) rfl
theorem q2066 : (Jvm.Cond.code ({ cls := "WeatherWagesModel", name := "readHedge", desc := "()V" } : Jvm.MethodName) prog_22_method_27_code (3 : Nat) (Option.none : Option Jvm.ClassFile.FieldType)) ∈ lw_all := lw_g (lw_at lw_m9 6 rfl) rfl
theorem q2067 : (Jvm.Cond.methodLink "WeatherWagesModel" (328 : Nat) ({ cls := "WeatherWagesModel", name := "readRate", desc := "()V" } : Jvm.MethodName)) ∈ lw_all := lw_g (lw_at lw_m9 7 rfl) rfl
theorem q2068 : (Jvm.Cond.privateMethod ({ cls := "WeatherWagesModel", name := "readRate", desc := "()V" } : Jvm.MethodName)) ∈ lw_tbl := lw_at lw_m9 8 rfl
theorem q2069 : (Jvm.Cond.instanceMethod ({ cls := "WeatherWagesModel", name := "readRate", desc := "()V" } : Jvm.MethodName)) ∈ lw_all := lw_g (lw_at lw_m9 9 rfl) rfl
theorem q2070 : (Jvm.Cond.code ({ cls := "WeatherWagesModel", name := "readRate", desc := "()V" } : Jvm.MethodName) prog_22_method_28_code (5 : Nat) (Option.none : Option Jvm.ClassFile.FieldType)) ∈ lw_all := lw_g (lw_at lw_m9 10 rfl) rfl
theorem q2071 : (Jvm.Cond.methodLink "WeatherWagesModel" (331 : Nat) ({ cls := "WeatherWagesModel", name := "readRule", desc := "(I)V" } : Jvm.MethodName)) ∈ lw_all := lw_g (lw_at lw_m9 11 rfl) rfl
theorem q2072 : (Jvm.Cond.privateMethod ({ cls := "WeatherWagesModel", name := "readRule", desc := "(I)V" } : Jvm.MethodName)) ∈ lw_tbl := lw_at lw_m9 12 rfl
theorem q2073 : (Jvm.Cond.instanceMethod ({ cls := "WeatherWagesModel", name := "readRule", desc := "(I)V" } : Jvm.MethodName)) ∈ lw_all := lw_g (lw_at lw_m9 13 rfl) rfl
theorem q2074 : (Jvm.Cond.code ({ cls := "WeatherWagesModel", name := "readRule", desc := "(I)V" } : Jvm.MethodName) prog_22_method_29_code (2 : Nat) (Option.none : Option Jvm.ClassFile.FieldType)) ∈ lw_all := lw_g (lw_at lw_m9 14 rfl) rfl
theorem q2075 : (Jvm.Cond.methodLink "WeatherWagesModel" (355 : Nat) ({ cls := "WeatherWagesModel", name := "e", desc := "()V" } : Jvm.MethodName)) ∈ lw_all := lw_g (lw_at lw_m9 15 rfl) rfl
theorem q2076 : (Jvm.Cond.privateMethod ({ cls := "WeatherWagesModel", name := "e", desc := "()V" } : Jvm.MethodName)) ∈ lw_tbl := lw_at lw_m9 16 rfl
theorem q2077 : (Jvm.Cond.instanceMethod ({ cls := "WeatherWagesModel", name := "e", desc := "()V" } : Jvm.MethodName)) ∈ lw_all := lw_g (lw_at lw_m9 17 rfl) rfl
theorem q2078 : (Jvm.Cond.code ({ cls := "WeatherWagesModel", name := "e", desc := "()V" } : Jvm.MethodName) prog_22_method_32_code (2 : Nat) (Option.none : Option Jvm.ClassFile.FieldType)) ∈ lw_all := lw_g (lw_at lw_m9 18 rfl) rfl
theorem q2079 : (Jvm.Cond.methodLink "WeatherWagesModel" (364 : Nat) ({ cls := "WeatherWagesModel", name := "pushE", desc := "(II)V" } : Jvm.MethodName)) ∈ lw_all := lw_g (lw_at lw_m9 19 rfl) rfl
theorem q2080 : (Jvm.Cond.privateMethod ({ cls := "WeatherWagesModel", name := "pushE", desc := "(II)V" } : Jvm.MethodName)) ∈ lw_tbl := lw_at lw_m9 20 rfl
theorem q2081 : (Jvm.Cond.instanceMethod ({ cls := "WeatherWagesModel", name := "pushE", desc := "(II)V" } : Jvm.MethodName)) ∈ lw_all := lw_g (lw_at lw_m9 21 rfl) rfl
theorem q2082 : (Jvm.Cond.code ({ cls := "WeatherWagesModel", name := "pushE", desc := "(II)V" } : Jvm.MethodName) prog_22_method_31_code (3 : Nat) (Option.none : Option Jvm.ClassFile.FieldType)) ∈ lw_all := lw_g (lw_at lw_m9 22 rfl) rfl
theorem q2083 : (Jvm.Cond.methodLink "WeatherWagesModel" (367 : Nat) ({ cls := "WeatherWagesModel", name := "unit", desc := "()Z" } : Jvm.MethodName)) ∈ lw_all := lw_g (lw_at lw_m9 23 rfl) rfl
theorem q2084 : (Jvm.Cond.privateMethod ({ cls := "WeatherWagesModel", name := "unit", desc := "()Z" } : Jvm.MethodName)) ∈ lw_tbl := lw_at lw_m9 24 rfl
theorem q2085 : (Jvm.Cond.instanceMethod ({ cls := "WeatherWagesModel", name := "unit", desc := "()Z" } : Jvm.MethodName)) ∈ lw_all := lw_g (lw_at lw_m9 25 rfl) rfl
theorem q2086 : (Jvm.Cond.code ({ cls := "WeatherWagesModel", name := "unit", desc := "()Z" } : Jvm.MethodName) prog_22_method_34_code (7 : Nat) (Option.some Jvm.ClassFile.FieldType.boolean)) ∈ lw_all := lw_g (lw_at lw_m9 26 rfl) rfl
theorem q2087 : (Jvm.Cond.methodLink "WeatherWagesModel" (335 : Nat) ({ cls := "WeatherWagesModel", name := "isSignHere", desc := "(I)Z" } : Jvm.MethodName)) ∈ lw_all := lw_g (lw_at lw_m9 27 rfl) rfl
theorem q2088 : (Jvm.Cond.privateMethod ({ cls := "WeatherWagesModel", name := "isSignHere", desc := "(I)Z" } : Jvm.MethodName)) ∈ lw_tbl := lw_at lw_m9 28 rfl
theorem q2089 : (Jvm.Cond.instanceMethod ({ cls := "WeatherWagesModel", name := "isSignHere", desc := "(I)Z" } : Jvm.MethodName)) ∈ lw_all := lw_g (lw_at lw_m9 29 rfl) rfl
theorem q2090 : (Jvm.Cond.code ({ cls := "WeatherWagesModel", name := "isSignHere", desc := "(I)Z" } : Jvm.MethodName) prog_22_method_10_code (2 : Nat) (Option.some Jvm.ClassFile.FieldType.boolean)) ∈ lw_all := lw_g (lw_at lw_m9 30 rfl) rfl
theorem q2091 : (Jvm.Cond.methodLink "WeatherWagesModel" (373 : Nat) ({ cls := "WeatherWagesModel", name := "wordHere", desc := "()I" } : Jvm.MethodName)) ∈ lw_all := lw_g (lw_at lw_m9 31 rfl) rfl
theorem q2092 : (Jvm.Cond.privateMethod ({ cls := "WeatherWagesModel", name := "wordHere", desc := "()I" } : Jvm.MethodName)) ∈ lw_tbl := lw_at lw_m9 32 rfl
theorem q2093 : (Jvm.Cond.instanceMethod ({ cls := "WeatherWagesModel", name := "wordHere", desc := "()I" } : Jvm.MethodName)) ∈ lw_all := lw_g (lw_at lw_m9 33 rfl) rfl
theorem q2094 : (Jvm.Cond.code ({ cls := "WeatherWagesModel", name := "wordHere", desc := "()I" } : Jvm.MethodName) prog_22_method_33_code (1 : Nat) (Option.some Jvm.ClassFile.FieldType.int)) ∈ lw_all := lw_g (lw_at lw_m9 34 rfl) rfl
theorem q2095 : (Jvm.Cond.methodLink "WeatherWagesModel" (376 : Nat) ({ cls := "WeatherWagesModel", name := "emit", desc := "(II)V" } : Jvm.MethodName)) ∈ lw_all := lw_g (lw_at lw_m9 35 rfl) rfl
theorem q2096 : (Jvm.Cond.privateMethod ({ cls := "WeatherWagesModel", name := "emit", desc := "(II)V" } : Jvm.MethodName)) ∈ lw_tbl := lw_at lw_m9 36 rfl
theorem q2097 : (Jvm.Cond.instanceMethod ({ cls := "WeatherWagesModel", name := "emit", desc := "(II)V" } : Jvm.MethodName)) ∈ lw_all := lw_g (lw_at lw_m9 37 rfl) rfl
theorem q2098 : (Jvm.Cond.code ({ cls := "WeatherWagesModel", name := "emit", desc := "(II)V" } : Jvm.MethodName) prog_22_method_30_code (3 : Nat) (Option.none : Option Jvm.ClassFile.FieldType)) ∈ lw_all := lw_g (lw_at lw_m9 38 rfl) rfl
theorem q2099 : (Jvm.Cond.methodLink "WeatherWagesModel" (370 : Nat) ({ cls := "WeatherWagesModel", name := "behindUnit", desc := "()Z" } : Jvm.MethodName)) ∈ lw_all := lw_g (lw_at lw_m9 39 rfl) rfl
theorem q2100 : (Jvm.Cond.privateMethod ({ cls := "WeatherWagesModel", name := "behindUnit", desc := "()Z" } : Jvm.MethodName)) ∈ lw_tbl := lw_at lw_m9 40 rfl
theorem q2101 : (Jvm.Cond.instanceMethod ({ cls := "WeatherWagesModel", name := "behindUnit", desc := "()Z" } : Jvm.MethodName)) ∈ lw_all := lw_g (lw_at lw_m9 41 rfl) rfl
theorem q2102 : (Jvm.Cond.code ({ cls := "WeatherWagesModel", name := "behindUnit", desc := "()Z" } : Jvm.MethodName) prog_22_method_37_code (2 : Nat) (Option.some Jvm.ClassFile.FieldType.boolean)) ∈ lw_all := lw_g (lw_at lw_m9 42 rfl) rfl
theorem q2103 : (Jvm.Cond.methodLink "WeatherWagesModel" (379 : Nat) ({ cls := "WeatherWagesModel", name := "rankHere", desc := "()I" } : Jvm.MethodName)) ∈ lw_all := lw_g (lw_at lw_m9 43 rfl) rfl
theorem q2104 : (Jvm.Cond.privateMethod ({ cls := "WeatherWagesModel", name := "rankHere", desc := "()I" } : Jvm.MethodName)) ∈ lw_tbl := lw_at lw_m9 44 rfl
theorem q2105 : (Jvm.Cond.instanceMethod ({ cls := "WeatherWagesModel", name := "rankHere", desc := "()I" } : Jvm.MethodName)) ∈ lw_all := lw_g (lw_at lw_m9 45 rfl) rfl
theorem q2106 : (Jvm.Cond.code ({ cls := "WeatherWagesModel", name := "rankHere", desc := "()I" } : Jvm.MethodName) prog_22_method_35_code (1 : Nat) (Option.some Jvm.ClassFile.FieldType.int)) ∈ lw_all := lw_g (lw_at lw_m9 46 rfl) rfl
theorem q2107 : (Jvm.Cond.methodLink "WeatherWagesModel" (382 : Nat) ({ cls := "WeatherWagesModel", name := "isCompared", desc := "()Z" } : Jvm.MethodName)) ∈ lw_all := lw_g (lw_at lw_m9 47 rfl) rfl
theorem q2108 : (Jvm.Cond.privateMethod ({ cls := "WeatherWagesModel", name := "isCompared", desc := "()Z" } : Jvm.MethodName)) ∈ lw_tbl := lw_at lw_m9 48 rfl
theorem q2109 : (Jvm.Cond.instanceMethod ({ cls := "WeatherWagesModel", name := "isCompared", desc := "()Z" } : Jvm.MethodName)) ∈ lw_all := lw_g (lw_at lw_m9 49 rfl) rfl
theorem q2110 : (Jvm.Cond.code ({ cls := "WeatherWagesModel", name := "isCompared", desc := "()Z" } : Jvm.MethodName) prog_22_method_36_code (2 : Nat) (Option.some Jvm.ClassFile.FieldType.boolean)) ∈ lw_all := lw_g (lw_at lw_m9 50 rfl) rfl
theorem q2112 : (Jvm.Cond.instanceMethod ({ cls := "WeatherWagesModel", name := "fault", desc := "(I)I" } : Jvm.MethodName)) ∈ lw_all := lw_g (lw_at lw_m9 52 rfl) rfl
theorem q2113 : (Jvm.Cond.selects "WeatherWagesModel" ({ cls := "WeatherWagesModel", name := "fault", desc := "(I)I" } : Jvm.MethodName) ({ cls := "WeatherWagesModel", name := "fault", desc := "(I)I" } : Jvm.MethodName)) ∈ lw_all := lw_g (lw_at lw_m9 53 rfl) rfl
theorem q2114 : (Jvm.Cond.code ({ cls := "WeatherWagesModel", name := "fault", desc := "(I)I" } : Jvm.MethodName) prog_22_method_42_code (2 : Nat) (Option.some Jvm.ClassFile.FieldType.int)) ∈ lw_all := lw_g (lw_at lw_m9 54 rfl) rfl
theorem q2116 : (Jvm.Cond.instanceMethod ({ cls := "WeatherWagesModel", name := "man", desc := "(II)I" } : Jvm.MethodName)) ∈ lw_all := lw_g (lw_at lw_m9 56 rfl) rfl
theorem q2117 : (Jvm.Cond.selects "WeatherWagesModel" ({ cls := "WeatherWagesModel", name := "man", desc := "(II)I" } : Jvm.MethodName) ({ cls := "WeatherWagesModel", name := "man", desc := "(II)I" } : Jvm.MethodName)) ∈ lw_all := lw_g (lw_at lw_m9 57 rfl) rfl
theorem q2118 : (Jvm.Cond.code ({ cls := "WeatherWagesModel", name := "man", desc := "(II)I" } : Jvm.MethodName) prog_22_method_59_code (3 : Nat) (Option.some Jvm.ClassFile.FieldType.int)) ∈ lw_all := lw_g (lw_at lw_m9 58 rfl) rfl
theorem q2119 : (Jvm.Cond.methodLink "WeatherWagesModel" (426 : Nat) ({ cls := "WeatherWagesModel", name := "isMan", desc := "(I)Z" } : Jvm.MethodName)) ∈ lw_all := lw_g (lw_at lw_m9 59 rfl) rfl
theorem q2120 : (Jvm.Cond.privateMethod ({ cls := "WeatherWagesModel", name := "isMan", desc := "(I)Z" } : Jvm.MethodName)) ∈ lw_tbl := lw_at lw_m9 60 rfl
theorem q2121 : (Jvm.Cond.instanceMethod ({ cls := "WeatherWagesModel", name := "isMan", desc := "(I)Z" } : Jvm.MethodName)) ∈ lw_all := lw_g (lw_at lw_m9 61 rfl) rfl
theorem q2122 : (Jvm.Cond.code ({ cls := "WeatherWagesModel", name := "isMan", desc := "(I)Z" } : Jvm.MethodName) prog_22_method_48_code (2 : Nat) (Option.some Jvm.ClassFile.FieldType.boolean)) ∈ lw_all := lw_g (lw_at lw_m9 62 rfl) rfl
theorem q2123 : (Jvm.Cond.methodLink "WeatherWagesModel" (401 : Nat) ({ cls := "WeatherWagesModel", name := "isIn", desc := "(III)Z" } : Jvm.MethodName)) ∈ lw_all := lw_g (lw_at lw_m9 63 rfl) rfl
theorem q2124 : (Jvm.Cond.static ({ cls := "WeatherWagesModel", name := "isIn", desc := "(III)Z" } : Jvm.MethodName)) ∈ lw_all := lw_g (lw_at lw_m9 64 rfl) rfl
theorem q2125 : (Jvm.Cond.code ({ cls := "WeatherWagesModel", name := "isIn", desc := "(III)Z" } : Jvm.MethodName) prog_22_method_43_code (3 : Nat) (Option.some Jvm.ClassFile.FieldType.boolean)) ∈ lw_all := lw_g (lw_at lw_m9 65 rfl) rfl
theorem q2126 : (Jvm.Cond.constant "WeatherWagesModel" (429 : Nat) (-1000000 : Int32)) ∈ lw_all := lw_g (lw_at lw_m9 66 rfl) rfl
theorem q2127 : (Jvm.Cond.methodLink "WeatherWagesModel" (420 : Nat) ({ cls := "WeatherWagesModel", name := "growthOf", desc := "(I)I" } : Jvm.MethodName)) ∈ lw_all := lw_g (lw_at lw_m9 67 rfl) rfl
theorem q2128 : (Jvm.Cond.privateMethod ({ cls := "WeatherWagesModel", name := "growthOf", desc := "(I)I" } : Jvm.MethodName)) ∈ lw_tbl := lw_at lw_m9 68 rfl
theorem q2129 : (Jvm.Cond.instanceMethod ({ cls := "WeatherWagesModel", name := "growthOf", desc := "(I)I" } : Jvm.MethodName)) ∈ lw_all := lw_g (lw_at lw_m9 69 rfl) rfl
theorem q2130 : (Jvm.Cond.code ({ cls := "WeatherWagesModel", name := "growthOf", desc := "(I)I" } : Jvm.MethodName) prog_22_method_54_code (4 : Nat) (Option.some Jvm.ClassFile.FieldType.int)) ∈ lw_all := lw_g (lw_at lw_m9 70 rfl) rfl
theorem q2131 : (Jvm.Cond.methodLink "WeatherWagesModel" (388 : Nat) ({ cls := "WeatherWagesModel", name := "overOf", desc := "(II)I" } : Jvm.MethodName)) ∈ lw_all := lw_g (lw_at lw_m9 71 rfl) rfl
theorem q2132 : (Jvm.Cond.privateMethod ({ cls := "WeatherWagesModel", name := "overOf", desc := "(II)I" } : Jvm.MethodName)) ∈ lw_tbl := lw_at lw_m9 72 rfl
theorem q2133 : (Jvm.Cond.instanceMethod ({ cls := "WeatherWagesModel", name := "overOf", desc := "(II)I" } : Jvm.MethodName)) ∈ lw_all := lw_g (lw_at lw_m9 73 rfl) rfl
theorem q2134 : (Jvm.Cond.code ({ cls := "WeatherWagesModel", name := "overOf", desc := "(II)I" } : Jvm.MethodName) prog_22_method_39_code (3 : Nat) (Option.some Jvm.ClassFile.FieldType.int)) ∈ lw_all := lw_g (lw_at lw_m9 74 rfl) rfl
theorem q2135 : (Jvm.Cond.methodLink "WeatherWagesModel" (417 : Nat) ({ cls := "WeatherWagesModel", name := "comes", desc := "()I" } : Jvm.MethodName)) ∈ lw_all := lw_g (lw_at lw_m9 75 rfl) rfl
theorem q2136 : (Jvm.Cond.privateMethod ({ cls := "WeatherWagesModel", name := "comes", desc := "()I" } : Jvm.MethodName)) ∈ lw_tbl := lw_at lw_m9 76 rfl
theorem q2137 : (Jvm.Cond.instanceMethod ({ cls := "WeatherWagesModel", name := "comes", desc := "()I" } : Jvm.MethodName)) ∈ lw_all := lw_g (lw_at lw_m9 77 rfl) rfl
theorem q2138 : (Jvm.Cond.code ({ cls := "WeatherWagesModel", name := "comes", desc := "()I" } : Jvm.MethodName) prog_22_method_41_code (4 : Nat) (Option.some Jvm.ClassFile.FieldType.int)) ∈ lw_all := lw_g (lw_at lw_m9 78 rfl) rfl
theorem q2139 : (Jvm.Cond.methodLink "WeatherWagesModel" (391 : Nat) ({ cls := "WeatherWagesModel", name := "asked", desc := "(II)I" } : Jvm.MethodName)) ∈ lw_all := lw_g (lw_at lw_m9 79 rfl) rfl
theorem q2140 : (Jvm.Cond.privateMethod ({ cls := "WeatherWagesModel", name := "asked", desc := "(II)I" } : Jvm.MethodName)) ∈ lw_tbl := lw_at lw_m9 80 rfl
theorem q2141 : (Jvm.Cond.instanceMethod ({ cls := "WeatherWagesModel", name := "asked", desc := "(II)I" } : Jvm.MethodName)) ∈ lw_all := lw_g (lw_at lw_m9 81 rfl) rfl
theorem q2142 : (Jvm.Cond.code ({ cls := "WeatherWagesModel", name := "asked", desc := "(II)I" } : Jvm.MethodName) prog_22_method_40_code (3 : Nat) (Option.some Jvm.ClassFile.FieldType.int)) ∈ lw_all := lw_g (lw_at lw_m9 82 rfl) rfl
theorem q2143 : (Jvm.Cond.methodLink "WeatherWagesModel" (394 : Nat) ({ cls := "WeatherWagesModel", name := "two", desc := "(III)I" } : Jvm.MethodName)) ∈ lw_all := lw_g (lw_at lw_m9 83 rfl) rfl
theorem q2144 : (Jvm.Cond.static ({ cls := "WeatherWagesModel", name := "two", desc := "(III)I" } : Jvm.MethodName)) ∈ lw_all := lw_g (lw_at lw_m9 84 rfl) rfl
theorem q2145 : (Jvm.Cond.code ({ cls := "WeatherWagesModel", name := "two", desc := "(III)I" } : Jvm.MethodName) prog_22_method_38_code (3 : Nat) (Option.some Jvm.ClassFile.FieldType.int)) ∈ lw_all := lw_g (lw_at lw_m9 85 rfl) rfl
theorem q2146 : (Jvm.Cond.methodLink "WeatherWagesModel" (430 : Nat) ({ cls := "WeatherWagesModel", name := "sumOf", desc := "(II)I" } : Jvm.MethodName)) ∈ lw_all := lw_g (lw_at lw_m9 86 rfl) rfl
theorem q2147 : (Jvm.Cond.privateMethod ({ cls := "WeatherWagesModel", name := "sumOf", desc := "(II)I" } : Jvm.MethodName)) ∈ lw_tbl := lw_at lw_m9 87 rfl
theorem q2148 : (Jvm.Cond.instanceMethod ({ cls := "WeatherWagesModel", name := "sumOf", desc := "(II)I" } : Jvm.MethodName)) ∈ lw_all := lw_g (lw_at lw_m9 88 rfl) rfl
theorem q2149 : (Jvm.Cond.code ({ cls := "WeatherWagesModel", name := "sumOf", desc := "(II)I" } : Jvm.MethodName) prog_22_method_58_code (3 : Nat) (Option.some Jvm.ClassFile.FieldType.int)) ∈ lw_all := lw_g (lw_at lw_m9 89 rfl) rfl
theorem q2150 : (Jvm.Cond.methodLink "WeatherWagesModel" (433 : Nat) ({ cls := "WeatherWagesModel", name := "payOf", desc := "(II)I" } : Jvm.MethodName)) ∈ lw_all := lw_g (lw_at lw_m9 90 rfl) rfl
theorem q2151 : (Jvm.Cond.privateMethod ({ cls := "WeatherWagesModel", name := "payOf", desc := "(II)I" } : Jvm.MethodName)) ∈ lw_tbl := lw_at lw_m9 91 rfl
theorem q2152 : (Jvm.Cond.instanceMethod ({ cls := "WeatherWagesModel", name := "payOf", desc := "(II)I" } : Jvm.MethodName)) ∈ lw_all := lw_g (lw_at lw_m9 92 rfl) rfl
theorem q2153 : (Jvm.Cond.code ({ cls := "WeatherWagesModel", name := "payOf", desc := "(II)I" } : Jvm.MethodName) prog_22_method_51_code (3 : Nat) (Option.some Jvm.ClassFile.FieldType.int)) ∈ lw_all := lw_g (lw_at lw_m9 93 rfl) rfl
theorem q2155 : (Jvm.Cond.instanceMethod ({ cls := "WeatherWagesModel", name := "purse", desc := "(II)I" } : Jvm.MethodName)) ∈ lw_all := lw_g (lw_at lw_m9 95 rfl) rfl
theorem q2156 : (Jvm.Cond.selects "WeatherWagesModel" ({ cls := "WeatherWagesModel", name := "purse", desc := "(II)I" } : Jvm.MethodName) ({ cls := "WeatherWagesModel", name := "purse", desc := "(II)I" } : Jvm.MethodName)) ∈ lw_all := lw_g (lw_at lw_m9 96 rfl) rfl
theorem q2157 : (Jvm.Cond.code ({ cls := "WeatherWagesModel", name := "purse", desc := "(II)I" } : Jvm.MethodName) prog_22_method_60_code (3 : Nat) (Option.some Jvm.ClassFile.FieldType.int)) ∈ lw_all := lw_g (lw_at lw_m9 97 rfl) rfl
theorem q2158 : (Jvm.Cond.methodLink "WeatherWagesModel" (436 : Nat) ({ cls := "WeatherWagesModel", name := "isKind", desc := "(I)Z" } : Jvm.MethodName)) ∈ lw_all := lw_g (lw_at lw_m9 98 rfl) rfl
theorem q2159 : (Jvm.Cond.privateMethod ({ cls := "WeatherWagesModel", name := "isKind", desc := "(I)Z" } : Jvm.MethodName)) ∈ lw_tbl := lw_at lw_m9 99 rfl
theorem q2160 : (Jvm.Cond.instanceMethod ({ cls := "WeatherWagesModel", name := "isKind", desc := "(I)Z" } : Jvm.MethodName)) ∈ lw_all := lw_g (lw_at lw_m9 100 rfl) rfl
theorem q2161 : (Jvm.Cond.code ({ cls := "WeatherWagesModel", name := "isKind", desc := "(I)Z" } : Jvm.MethodName) prog_22_method_49_code (2 : Nat) (Option.some Jvm.ClassFile.FieldType.boolean)) ∈ lw_all := lw_g (lw_at lw_m9 101 rfl) rfl
theorem q2162 : (Jvm.Cond.methodLink "WeatherWagesModel" (439 : Nat) ({ cls := "WeatherWagesModel", name := "inPurse", desc := "(II)I" } : Jvm.MethodName)) ∈ lw_all := lw_g (lw_at lw_m9 102 rfl) rfl
theorem q2163 : (Jvm.Cond.privateMethod ({ cls := "WeatherWagesModel", name := "inPurse", desc := "(II)I" } : Jvm.MethodName)) ∈ lw_tbl := lw_at lw_m9 103 rfl
theorem q2164 : (Jvm.Cond.instanceMethod ({ cls := "WeatherWagesModel", name := "inPurse", desc := "(II)I" } : Jvm.MethodName)) ∈ lw_all := lw_g (lw_at lw_m9 104 rfl) rfl
theorem q2165 : (Jvm.Cond.code ({ cls := "WeatherWagesModel", name := "inPurse", desc := "(II)I" } : Jvm.MethodName) prog_22_method_50_code (3 : Nat) (Option.some Jvm.ClassFile.FieldType.int)) ∈ lw_all := lw_g (lw_at lw_m9 105 rfl) rfl
theorem q2167 : (Jvm.Cond.instanceMethod ({ cls := "WeatherWagesModel", name := "over", desc := "(II)I" } : Jvm.MethodName)) ∈ lw_all := lw_g (lw_at lw_m9 107 rfl) rfl
theorem q2168 : (Jvm.Cond.selects "WeatherWagesModel" ({ cls := "WeatherWagesModel", name := "over", desc := "(II)I" } : Jvm.MethodName) ({ cls := "WeatherWagesModel", name := "over", desc := "(II)I" } : Jvm.MethodName)) ∈ lw_all := lw_g (lw_at lw_m9 108 rfl) rfl
theorem q2169 : (Jvm.Cond.code ({ cls := "WeatherWagesModel", name := "over", desc := "(II)I" } : Jvm.MethodName) prog_22_method_61_code (3 : Nat) (Option.some Jvm.ClassFile.FieldType.int)) ∈ lw_all := lw_g (lw_at lw_m9 109 rfl) rfl
theorem q2171 : (Jvm.Cond.instanceMethod ({ cls := "WeatherWagesModel", name := "pay", desc := "(II)I" } : Jvm.MethodName)) ∈ lw_all := lw_g (lw_at lw_m9 111 rfl) rfl
theorem q2172 : (Jvm.Cond.selects "WeatherWagesModel" ({ cls := "WeatherWagesModel", name := "pay", desc := "(II)I" } : Jvm.MethodName) ({ cls := "WeatherWagesModel", name := "pay", desc := "(II)I" } : Jvm.MethodName)) ∈ lw_all := lw_g (lw_at lw_m9 112 rfl) rfl
theorem q2173 : (Jvm.Cond.code ({ cls := "WeatherWagesModel", name := "pay", desc := "(II)I" } : Jvm.MethodName) prog_22_method_62_code (3 : Nat) (Option.some Jvm.ClassFile.FieldType.int)) ∈ lw_all := lw_g (lw_at lw_m9 113 rfl) rfl
theorem q2175 : (Jvm.Cond.instanceMethod ({ cls := "WeatherWagesModel", name := "all", desc := "(II)I" } : Jvm.MethodName)) ∈ lw_all := lw_g (lw_at lw_m9 115 rfl) rfl
theorem q2176 : (Jvm.Cond.selects "WeatherWagesModel" ({ cls := "WeatherWagesModel", name := "all", desc := "(II)I" } : Jvm.MethodName) ({ cls := "WeatherWagesModel", name := "all", desc := "(II)I" } : Jvm.MethodName)) ∈ lw_all := lw_g (lw_at lw_m9 116 rfl) rfl
theorem q2177 : (Jvm.Cond.code ({ cls := "WeatherWagesModel", name := "all", desc := "(II)I" } : Jvm.MethodName) prog_22_method_63_code (5 : Nat) (Option.some Jvm.ClassFile.FieldType.int)) ∈ lw_all := lw_g (lw_at lw_m9 117 rfl) rfl
theorem q2179 : (Jvm.Cond.instanceMethod ({ cls := "WeatherWagesModel", name := "left", desc := "(I)I" } : Jvm.MethodName)) ∈ lw_all := lw_g (lw_at lw_m9 119 rfl) rfl
theorem q2180 : (Jvm.Cond.selects "WeatherWagesModel" ({ cls := "WeatherWagesModel", name := "left", desc := "(I)I" } : Jvm.MethodName) ({ cls := "WeatherWagesModel", name := "left", desc := "(I)I" } : Jvm.MethodName)) ∈ lw_all := lw_g (lw_at lw_m9 120 rfl) rfl
theorem q2181 : (Jvm.Cond.code ({ cls := "WeatherWagesModel", name := "left", desc := "(I)I" } : Jvm.MethodName) prog_22_method_64_code (2 : Nat) (Option.some Jvm.ClassFile.FieldType.int)) ∈ lw_all := lw_g (lw_at lw_m9 121 rfl) rfl
theorem q2182 : (Jvm.Cond.methodLink "WeatherWagesModel" (442 : Nat) ({ cls := "WeatherWagesModel", name := "leftOf", desc := "(I)I" } : Jvm.MethodName)) ∈ lw_all := lw_g (lw_at lw_m9 122 rfl) rfl
theorem q2183 : (Jvm.Cond.privateMethod ({ cls := "WeatherWagesModel", name := "leftOf", desc := "(I)I" } : Jvm.MethodName)) ∈ lw_tbl := lw_at lw_m9 123 rfl
theorem q2184 : (Jvm.Cond.instanceMethod ({ cls := "WeatherWagesModel", name := "leftOf", desc := "(I)I" } : Jvm.MethodName)) ∈ lw_all := lw_g (lw_at lw_m9 124 rfl) rfl
theorem q2185 : (Jvm.Cond.code ({ cls := "WeatherWagesModel", name := "leftOf", desc := "(I)I" } : Jvm.MethodName) prog_22_method_52_code (2 : Nat) (Option.some Jvm.ClassFile.FieldType.int)) ∈ lw_all := lw_g (lw_at lw_m9 125 rfl) rfl
theorem q2187 : (Jvm.Cond.instanceMethod ({ cls := "WeatherWagesModel", name := "spend", desc := "(III)I" } : Jvm.MethodName)) ∈ lw_all := lw_g (lw_at lw_m9 127 rfl) rfl
theorem q2188 : (Jvm.Cond.selects "WeatherWagesModel" ({ cls := "WeatherWagesModel", name := "spend", desc := "(III)I" } : Jvm.MethodName) ({ cls := "WeatherWagesModel", name := "spend", desc := "(III)I" } : Jvm.MethodName)) ∈ lw_all := lw_g (lw_at lw_m9 128 rfl) rfl
theorem q2189 : (Jvm.Cond.code ({ cls := "WeatherWagesModel", name := "spend", desc := "(III)I" } : Jvm.MethodName) prog_22_method_67_code (4 : Nat) (Option.some Jvm.ClassFile.FieldType.int)) ∈ lw_all := lw_g (lw_at lw_m9 129 rfl) rfl
theorem q2190 : (Jvm.Cond.methodLink "WeatherWagesModel" (445 : Nat) ({ cls := "WeatherWagesModel", name := "keepAct", desc := "()V" } : Jvm.MethodName)) ∈ lw_all := lw_g (lw_at lw_m9 130 rfl) rfl
theorem q2191 : (Jvm.Cond.privateMethod ({ cls := "WeatherWagesModel", name := "keepAct", desc := "()V" } : Jvm.MethodName)) ∈ lw_tbl := lw_at lw_m9 131 rfl
theorem q2192 : (Jvm.Cond.instanceMethod ({ cls := "WeatherWagesModel", name := "keepAct", desc := "()V" } : Jvm.MethodName)) ∈ lw_all := lw_g (lw_at lw_m9 132 rfl) rfl
theorem q2193 : (Jvm.Cond.code ({ cls := "WeatherWagesModel", name := "keepAct", desc := "()V" } : Jvm.MethodName) prog_22_method_65_code (2 : Nat) (Option.none : Option Jvm.ClassFile.FieldType)) ∈ lw_all := lw_g (lw_at lw_m9 133 rfl) rfl
theorem q2194 : (Jvm.Cond.methodLink "WeatherWagesModel" (448 : Nat) ({ cls := "WeatherWagesModel", name := "lay", desc := "(IIII)V" } : Jvm.MethodName)) ∈ lw_all := lw_g (lw_at lw_m9 134 rfl) rfl
theorem q2195 : (Jvm.Cond.privateMethod ({ cls := "WeatherWagesModel", name := "lay", desc := "(IIII)V" } : Jvm.MethodName)) ∈ lw_tbl := lw_at lw_m9 135 rfl
theorem q2196 : (Jvm.Cond.instanceMethod ({ cls := "WeatherWagesModel", name := "lay", desc := "(IIII)V" } : Jvm.MethodName)) ∈ lw_all := lw_g (lw_at lw_m9 136 rfl) rfl
theorem q2197 : (Jvm.Cond.code ({ cls := "WeatherWagesModel", name := "lay", desc := "(IIII)V" } : Jvm.MethodName) prog_22_method_57_code (5 : Nat) (Option.none : Option Jvm.ClassFile.FieldType)) ∈ lw_all := lw_g (lw_at lw_m9 137 rfl) rfl
theorem q2198 : (Jvm.Cond.methodLink "WeatherWagesModel" (423 : Nat) ({ cls := "WeatherWagesModel", name := "leakTo", desc := "(II)I" } : Jvm.MethodName)) ∈ lw_all := lw_g (lw_at lw_m9 138 rfl) rfl
theorem q2199 : (Jvm.Cond.privateMethod ({ cls := "WeatherWagesModel", name := "leakTo", desc := "(II)I" } : Jvm.MethodName)) ∈ lw_tbl := lw_at lw_m9 139 rfl
theorem q2200 : (Jvm.Cond.instanceMethod ({ cls := "WeatherWagesModel", name := "leakTo", desc := "(II)I" } : Jvm.MethodName)) ∈ lw_all := lw_g (lw_at lw_m9 140 rfl) rfl
theorem q2201 : (Jvm.Cond.code ({ cls := "WeatherWagesModel", name := "leakTo", desc := "(II)I" } : Jvm.MethodName) prog_22_method_56_code (3 : Nat) (Option.some Jvm.ClassFile.FieldType.int)) ∈ lw_all := lw_g (lw_at lw_m9 141 rfl) rfl
theorem q2203 : (Jvm.Cond.instanceMethod ({ cls := "WeatherWagesModel", name := "give", desc := "(IIII)I" } : Jvm.MethodName)) ∈ lw_all := lw_g (lw_at lw_m9 143 rfl) rfl
theorem q2204 : (Jvm.Cond.selects "WeatherWagesModel" ({ cls := "WeatherWagesModel", name := "give", desc := "(IIII)I" } : Jvm.MethodName) ({ cls := "WeatherWagesModel", name := "give", desc := "(IIII)I" } : Jvm.MethodName)) ∈ lw_all := lw_g (lw_at lw_m9 144 rfl) rfl
theorem q2205 : (Jvm.Cond.code ({ cls := "WeatherWagesModel", name := "give", desc := "(IIII)I" } : Jvm.MethodName) prog_22_method_69_code (5 : Nat) (Option.some Jvm.ClassFile.FieldType.int)) ∈ lw_all := lw_g (lw_at lw_m9 145 rfl) rfl
theorem q2206 : (Jvm.Cond.methodLink "WeatherWagesModel" (455 : Nat) ({ cls := "WeatherWagesModel", name := "gets", desc := "(III)V" } : Jvm.MethodName)) ∈ lw_all := lw_g (lw_at lw_m9 146 rfl) rfl
theorem q2207 : (Jvm.Cond.privateMethod ({ cls := "WeatherWagesModel", name := "gets", desc := "(III)V" } : Jvm.MethodName)) ∈ lw_tbl := lw_at lw_m9 147 rfl
theorem q2208 : (Jvm.Cond.instanceMethod ({ cls := "WeatherWagesModel", name := "gets", desc := "(III)V" } : Jvm.MethodName)) ∈ lw_all := lw_g (lw_at lw_m9 148 rfl) rfl
theorem q2209 : (Jvm.Cond.code ({ cls := "WeatherWagesModel", name := "gets", desc := "(III)V" } : Jvm.MethodName) prog_22_method_68_code (4 : Nat) (Option.none : Option Jvm.ClassFile.FieldType)) ∈ lw_all := lw_g (lw_at lw_m9 149 rfl) rfl
theorem q2210 : (Jvm.Cond.methodLink "WeatherWagesModel" (452 : Nat) ({ cls := "WeatherWagesModel", name := "lesser", desc := "(II)I" } : Jvm.MethodName)) ∈ lw_all := lw_g (lw_at lw_m9 150 rfl) rfl
theorem q2211 : (Jvm.Cond.static ({ cls := "WeatherWagesModel", name := "lesser", desc := "(II)I" } : Jvm.MethodName)) ∈ lw_all := lw_g (lw_at lw_m9 151 rfl) rfl
theorem q2212 : (Jvm.Cond.code ({ cls := "WeatherWagesModel", name := "lesser", desc := "(II)I" } : Jvm.MethodName) prog_22_method_45_code (2 : Nat) (Option.some Jvm.ClassFile.FieldType.int)) ∈ lw_all := lw_g (lw_at lw_m9 152 rfl) rfl
theorem q2214 : (Jvm.Cond.instanceMethod ({ cls := "WeatherWagesModel", name := "change", desc := "(III)I" } : Jvm.MethodName)) ∈ lw_all := lw_g (lw_at lw_m9 154 rfl) rfl
theorem q2215 : (Jvm.Cond.selects "WeatherWagesModel" ({ cls := "WeatherWagesModel", name := "change", desc := "(III)I" } : Jvm.MethodName) ({ cls := "WeatherWagesModel", name := "change", desc := "(III)I" } : Jvm.MethodName)) ∈ lw_all := lw_g (lw_at lw_m9 155 rfl) rfl
theorem q2216 : (Jvm.Cond.code ({ cls := "WeatherWagesModel", name := "change", desc := "(III)I" } : Jvm.MethodName) prog_22_method_70_code (5 : Nat) (Option.some Jvm.ClassFile.FieldType.int)) ∈ lw_all := lw_g (lw_at lw_m9 156 rfl) rfl
theorem q2218 : (Jvm.Cond.instanceMethod ({ cls := "WeatherWagesModel", name := "week", desc := "()I" } : Jvm.MethodName)) ∈ lw_all := lw_g (lw_at lw_m9 158 rfl) rfl
theorem q2219 : (Jvm.Cond.selects "WeatherWagesModel" ({ cls := "WeatherWagesModel", name := "week", desc := "()I" } : Jvm.MethodName) ({ cls := "WeatherWagesModel", name := "week", desc := "()I" } : Jvm.MethodName)) ∈ lw_all := lw_g (lw_at lw_m9 159 rfl) rfl
theorem q2220 : (Jvm.Cond.code ({ cls := "WeatherWagesModel", name := "week", desc := "()I" } : Jvm.MethodName) prog_22_method_73_code (1 : Nat) (Option.some Jvm.ClassFile.FieldType.int)) ∈ lw_all := lw_g (lw_at lw_m9 160 rfl) rfl
theorem q2221 : (Jvm.Cond.methodLink "WeatherWagesModel" (469 : Nat) ({ cls := "WeatherWagesModel", name := "goWeek", desc := "()I" } : Jvm.MethodName)) ∈ lw_all := lw_g (lw_at lw_m9 161 rfl) rfl
theorem q2222 : (Jvm.Cond.privateMethod ({ cls := "WeatherWagesModel", name := "goWeek", desc := "()I" } : Jvm.MethodName)) ∈ lw_tbl := lw_at lw_m9 162 rfl
theorem q2223 : (Jvm.Cond.instanceMethod ({ cls := "WeatherWagesModel", name := "goWeek", desc := "()I" } : Jvm.MethodName)) ∈ lw_all := lw_g (lw_at lw_m9 163 rfl) rfl
theorem q2224 : (Jvm.Cond.code ({ cls := "WeatherWagesModel", name := "goWeek", desc := "()I" } : Jvm.MethodName) prog_22_method_72_code (4 : Nat) (Option.some Jvm.ClassFile.FieldType.int)) ∈ lw_all := lw_g (lw_at lw_m9 164 rfl) rfl
theorem q2225 : (Jvm.Cond.methodLink "WeatherWagesModel" (459 : Nat) ({ cls := "WeatherWagesModel", name := "has", desc := "(II)Z" } : Jvm.MethodName)) ∈ lw_all := lw_g (lw_at lw_m9 165 rfl) rfl
theorem q2226 : (Jvm.Cond.static ({ cls := "WeatherWagesModel", name := "has", desc := "(II)Z" } : Jvm.MethodName)) ∈ lw_all := lw_g (lw_at lw_m9 166 rfl) rfl
theorem q2227 : (Jvm.Cond.code ({ cls := "WeatherWagesModel", name := "has", desc := "(II)Z" } : Jvm.MethodName) prog_22_method_44_code (2 : Nat) (Option.some Jvm.ClassFile.FieldType.boolean)) ∈ lw_all := lw_g (lw_at lw_m9 167 rfl) rfl
theorem q2228 : (Jvm.Cond.methodLink "WeatherWagesModel" (463 : Nat) ({ cls := "WeatherWagesModel", name := "loosen", desc := "(I)V" } : Jvm.MethodName)) ∈ lw_all := lw_g (lw_at lw_m9 168 rfl) rfl
theorem q2229 : (Jvm.Cond.privateMethod ({ cls := "WeatherWagesModel", name := "loosen", desc := "(I)V" } : Jvm.MethodName)) ∈ lw_tbl := lw_at lw_m9 169 rfl
theorem q2230 : (Jvm.Cond.instanceMethod ({ cls := "WeatherWagesModel", name := "loosen", desc := "(I)V" } : Jvm.MethodName)) ∈ lw_all := lw_g (lw_at lw_m9 170 rfl) rfl
theorem q2231 : (Jvm.Cond.code ({ cls := "WeatherWagesModel", name := "loosen", desc := "(I)V" } : Jvm.MethodName) prog_22_method_71_code (3 : Nat) (Option.none : Option Jvm.ClassFile.FieldType)) ∈ lw_all := lw_g (lw_at lw_m9 171 rfl) rfl
theorem q2232 : (Jvm.Cond.methodLink "WeatherWagesModel" (466 : Nat) ({ cls := "WeatherWagesModel", name := "growths", desc := "()I" } : Jvm.MethodName)) ∈ lw_all := lw_g (lw_at lw_m9 172 rfl) rfl
theorem q2233 : (Jvm.Cond.privateMethod ({ cls := "WeatherWagesModel", name := "growths", desc := "()I" } : Jvm.MethodName)) ∈ lw_tbl := lw_at lw_m9 173 rfl
theorem q2234 : (Jvm.Cond.instanceMethod ({ cls := "WeatherWagesModel", name := "growths", desc := "()I" } : Jvm.MethodName)) ∈ lw_all := lw_g (lw_at lw_m9 174 rfl) rfl
theorem q2235 : (Jvm.Cond.code ({ cls := "WeatherWagesModel", name := "growths", desc := "()I" } : Jvm.MethodName) prog_22_method_55_code (3 : Nat) (Option.some Jvm.ClassFile.FieldType.int)) ∈ lw_all := lw_g (lw_at lw_m9 175 rfl) rfl
theorem q2237 : (Jvm.Cond.instanceMethod ({ cls := "WeatherWagesModel", name := "undo", desc := "()Z" } : Jvm.MethodName)) ∈ lw_all := lw_g (lw_at lw_m9 177 rfl) rfl
theorem q2238 : (Jvm.Cond.selects "WeatherWagesModel" ({ cls := "WeatherWagesModel", name := "undo", desc := "()Z" } : Jvm.MethodName) ({ cls := "WeatherWagesModel", name := "undo", desc := "()Z" } : Jvm.MethodName)) ∈ lw_all := lw_g (lw_at lw_m9 178 rfl) rfl
theorem q2239 : (Jvm.Cond.code ({ cls := "WeatherWagesModel", name := "undo", desc := "()Z" } : Jvm.MethodName) prog_22_method_74_code (1 : Nat) (Option.some Jvm.ClassFile.FieldType.boolean)) ∈ lw_all := lw_g (lw_at lw_m9 179 rfl) rfl
theorem q2240 : (Jvm.Cond.methodLink "WeatherWagesModel" (472 : Nat) ({ cls := "WeatherWagesModel", name := "exchange", desc := "()V" } : Jvm.MethodName)) ∈ lw_all := lw_g (lw_at lw_m9 180 rfl) rfl
theorem q2241 : (Jvm.Cond.privateMethod ({ cls := "WeatherWagesModel", name := "exchange", desc := "()V" } : Jvm.MethodName)) ∈ lw_tbl := lw_at lw_m9 181 rfl
theorem q2242 : (Jvm.Cond.instanceMethod ({ cls := "WeatherWagesModel", name := "exchange", desc := "()V" } : Jvm.MethodName)) ∈ lw_all := lw_g (lw_at lw_m9 182 rfl) rfl
theorem q2243 : (Jvm.Cond.code ({ cls := "WeatherWagesModel", name := "exchange", desc := "()V" } : Jvm.MethodName) prog_22_method_66_code (3 : Nat) (Option.none : Option Jvm.ClassFile.FieldType)) ∈ lw_all := lw_g (lw_at lw_m9 183 rfl) rfl
theorem q2245 : (Jvm.Cond.instanceMethod ({ cls := "WeatherWagesModel", name := "redo", desc := "()Z" } : Jvm.MethodName)) ∈ lw_all := lw_g (lw_at lw_m9 185 rfl) rfl
theorem q2246 : (Jvm.Cond.selects "WeatherWagesModel" ({ cls := "WeatherWagesModel", name := "redo", desc := "()Z" } : Jvm.MethodName) ({ cls := "WeatherWagesModel", name := "redo", desc := "()Z" } : Jvm.MethodName)) ∈ lw_all := lw_g (lw_at lw_m9 186 rfl) rfl
theorem q2247 : (Jvm.Cond.code ({ cls := "WeatherWagesModel", name := "redo", desc := "()Z" } : Jvm.MethodName) prog_22_method_75_code (1 : Nat) (Option.some Jvm.ClassFile.FieldType.boolean)) ∈ lw_all := lw_g (lw_at lw_m9 187 rfl) rfl
theorem q2249 : (Jvm.Cond.instanceMethod ({ cls := "WeatherWagesModel", name := "lies", desc := "(I)I" } : Jvm.MethodName)) ∈ lw_all := lw_g (lw_at lw_m9 189 rfl) rfl
theorem q2250 : (Jvm.Cond.selects "WeatherWagesModel" ({ cls := "WeatherWagesModel", name := "lies", desc := "(I)I" } : Jvm.MethodName) ({ cls := "WeatherWagesModel", name := "lies", desc := "(I)I" } : Jvm.MethodName)) ∈ lw_all := lw_g (lw_at lw_m9 190 rfl) rfl
theorem q2251 : (Jvm.Cond.code ({ cls := "WeatherWagesModel", name := "lies", desc := "(I)I" } : Jvm.MethodName) prog_22_method_76_code (2 : Nat) (Option.some Jvm.ClassFile.FieldType.int)) ∈ lw_all := lw_g (lw_at lw_m9 191 rfl) rfl
theorem q2253 : (Jvm.Cond.instanceMethod ({ cls := "WeatherWagesModel", name := "best", desc := "(II)I" } : Jvm.MethodName)) ∈ lw_all := lw_g (lw_at lw_m9 193 rfl) rfl
theorem q2254 : (Jvm.Cond.selects "WeatherWagesModel" ({ cls := "WeatherWagesModel", name := "best", desc := "(II)I" } : Jvm.MethodName) ({ cls := "WeatherWagesModel", name := "best", desc := "(II)I" } : Jvm.MethodName)) ∈ lw_all := lw_g (lw_at lw_m9 194 rfl) rfl
theorem q2255 : (Jvm.Cond.code ({ cls := "WeatherWagesModel", name := "best", desc := "(II)I" } : Jvm.MethodName) prog_22_method_84_code (3 : Nat) (Option.some Jvm.ClassFile.FieldType.int)) ∈ lw_all := lw_g (lw_at lw_m9 195 rfl) rfl
theorem q2256 : (Jvm.Cond.methodLink "WeatherWagesModel" (498 : Nat) ({ cls := "WeatherWagesModel", name := "layBest", desc := "(II)V" } : Jvm.MethodName)) ∈ lw_all := lw_g (lw_at lw_m9 196 rfl) rfl
theorem q2257 : (Jvm.Cond.privateMethod ({ cls := "WeatherWagesModel", name := "layBest", desc := "(II)V" } : Jvm.MethodName)) ∈ lw_tbl := lw_at lw_m9 197 rfl
theorem q2258 : (Jvm.Cond.instanceMethod ({ cls := "WeatherWagesModel", name := "layBest", desc := "(II)V" } : Jvm.MethodName)) ∈ lw_all := lw_g (lw_at lw_m9 198 rfl) rfl
theorem q2259 : (Jvm.Cond.code ({ cls := "WeatherWagesModel", name := "layBest", desc := "(II)V" } : Jvm.MethodName) prog_22_method_81_code (7 : Nat) (Option.none : Option Jvm.ClassFile.FieldType)) ∈ lw_all := lw_g (lw_at lw_m9 199 rfl) rfl
theorem q2260 : (Jvm.Cond.methodLink "WeatherWagesModel" (475 : Nat) ({ cls := "WeatherWagesModel", name := "layMost", desc := "(I)V" } : Jvm.MethodName)) ∈ lw_all := lw_g (lw_at lw_m9 200 rfl) rfl
theorem q2261 : (Jvm.Cond.privateMethod ({ cls := "WeatherWagesModel", name := "layMost", desc := "(I)V" } : Jvm.MethodName)) ∈ lw_tbl := lw_at lw_m9 201 rfl
theorem q2262 : (Jvm.Cond.instanceMethod ({ cls := "WeatherWagesModel", name := "layMost", desc := "(I)V" } : Jvm.MethodName)) ∈ lw_all := lw_g (lw_at lw_m9 202 rfl) rfl
theorem q2263 : (Jvm.Cond.code ({ cls := "WeatherWagesModel", name := "layMost", desc := "(I)V" } : Jvm.MethodName) prog_22_method_80_code (3 : Nat) (Option.none : Option Jvm.ClassFile.FieldType)) ∈ lw_all := lw_g (lw_at lw_m9 203 rfl) rfl
theorem q2264 : (Jvm.Cond.methodLink "WeatherWagesModel" (478 : Nat) ({ cls := "WeatherWagesModel", name := "noRow", desc := "()V" } : Jvm.MethodName)) ∈ lw_all := lw_g (lw_at lw_m9 204 rfl) rfl
theorem q2265 : (Jvm.Cond.privateMethod ({ cls := "WeatherWagesModel", name := "noRow", desc := "()V" } : Jvm.MethodName)) ∈ lw_tbl := lw_at lw_m9 205 rfl
theorem q2266 : (Jvm.Cond.instanceMethod ({ cls := "WeatherWagesModel", name := "noRow", desc := "()V" } : Jvm.MethodName)) ∈ lw_all := lw_g (lw_at lw_m9 206 rfl) rfl
theorem q2267 : (Jvm.Cond.code ({ cls := "WeatherWagesModel", name := "noRow", desc := "()V" } : Jvm.MethodName) prog_22_method_78_code (2 : Nat) (Option.none : Option Jvm.ClassFile.FieldType)) ∈ lw_all := lw_g (lw_at lw_m9 207 rfl) rfl
theorem q2268 : (Jvm.Cond.methodLink "WeatherWagesModel" (484 : Nat) ({ cls := "WeatherWagesModel", name := "layRow", desc := "(II)V" } : Jvm.MethodName)) ∈ lw_all := lw_g (lw_at lw_m9 208 rfl) rfl
theorem q2269 : (Jvm.Cond.privateMethod ({ cls := "WeatherWagesModel", name := "layRow", desc := "(II)V" } : Jvm.MethodName)) ∈ lw_tbl := lw_at lw_m9 209 rfl
theorem q2270 : (Jvm.Cond.instanceMethod ({ cls := "WeatherWagesModel", name := "layRow", desc := "(II)V" } : Jvm.MethodName)) ∈ lw_all := lw_g (lw_at lw_m9 210 rfl) rfl
theorem q2271 : (Jvm.Cond.code ({ cls := "WeatherWagesModel", name := "layRow", desc := "(II)V" } : Jvm.MethodName) prog_22_method_77_code (4 : Nat) (Option.none : Option Jvm.ClassFile.FieldType)) ∈ lw_all := lw_g (lw_at lw_m9 211 rfl) rfl
theorem q2272 : (Jvm.Cond.methodLink "WeatherWagesModel" (490 : Nat) ({ cls := "WeatherWagesModel", name := "nextRow", desc := "([II)Z" } : Jvm.MethodName)) ∈ lw_all := lw_g (lw_at lw_m9 212 rfl) rfl
theorem q2273 : (Jvm.Cond.privateMethod ({ cls := "WeatherWagesModel", name := "nextRow", desc := "([II)Z" } : Jvm.MethodName)) ∈ lw_tbl := lw_at lw_m9 213 rfl
theorem q2274 : (Jvm.Cond.instanceMethod ({ cls := "WeatherWagesModel", name := "nextRow", desc := "([II)Z" } : Jvm.MethodName)) ∈ lw_all := lw_g (lw_at lw_m9 214 rfl) rfl
theorem q2275 : (Jvm.Cond.code ({ cls := "WeatherWagesModel", name := "nextRow", desc := "([II)Z" } : Jvm.MethodName) prog_22_method_79_code (4 : Nat) (Option.some Jvm.ClassFile.FieldType.boolean)) ∈ lw_all := lw_g (lw_at lw_m9 215 rfl) rfl
theorem q2276 : (Jvm.Cond.methodLink "WeatherWagesModel" (501 : Nat) ({ cls := "WeatherWagesModel", name := "show", desc := "(I)I" } : Jvm.MethodName)) ∈ lw_all := lw_g (lw_at lw_m9 216 rfl) rfl
theorem q2277 : (Jvm.Cond.privateMethod ({ cls := "WeatherWagesModel", name := "show", desc := "(I)I" } : Jvm.MethodName)) ∈ lw_tbl := lw_at lw_m9 217 rfl
theorem q2278 : (Jvm.Cond.instanceMethod ({ cls := "WeatherWagesModel", name := "show", desc := "(I)I" } : Jvm.MethodName)) ∈ lw_all := lw_g (lw_at lw_m9 218 rfl) rfl
theorem q2279 : (Jvm.Cond.code ({ cls := "WeatherWagesModel", name := "show", desc := "(I)I" } : Jvm.MethodName) prog_22_method_83_code (2 : Nat) (Option.some Jvm.ClassFile.FieldType.int)) ∈ lw_all := lw_g (lw_at lw_m9 219 rfl) rfl
theorem q2280 : (Jvm.Cond.methodLink "WeatherWagesModel" (494 : Nat) ({ cls := "WeatherWagesModel", name := "showRow", desc := "([II)V" } : Jvm.MethodName)) ∈ lw_all := lw_g (lw_at lw_m9 220 rfl) rfl
theorem q2281 : (Jvm.Cond.privateMethod ({ cls := "WeatherWagesModel", name := "showRow", desc := "([II)V" } : Jvm.MethodName)) ∈ lw_tbl := lw_at lw_m9 221 rfl
theorem q2282 : (Jvm.Cond.instanceMethod ({ cls := "WeatherWagesModel", name := "showRow", desc := "([II)V" } : Jvm.MethodName)) ∈ lw_all := lw_g (lw_at lw_m9 222 rfl) rfl
theorem q2283 : (Jvm.Cond.code ({ cls := "WeatherWagesModel", name := "showRow", desc := "([II)V" } : Jvm.MethodName) prog_22_method_82_code (4 : Nat) (Option.none : Option Jvm.ClassFile.FieldType)) ∈ lw_all := lw_g (lw_at lw_m9 223 rfl) rfl
theorem q2285 : (Jvm.Cond.instanceMethod ({ cls := "WeatherWagesModel", name := "good", desc := "(II)I" } : Jvm.MethodName)) ∈ lw_all := lw_g (lw_at lw_m9 225 rfl) rfl
theorem q2286 : (Jvm.Cond.selects "WeatherWagesModel" ({ cls := "WeatherWagesModel", name := "good", desc := "(II)I" } : Jvm.MethodName) ({ cls := "WeatherWagesModel", name := "good", desc := "(II)I" } : Jvm.MethodName)) ∈ lw_all := lw_g (lw_at lw_m9 226 rfl) rfl
theorem q2287 : (Jvm.Cond.code ({ cls := "WeatherWagesModel", name := "good", desc := "(II)I" } : Jvm.MethodName) prog_22_method_85_code (3 : Nat) (Option.some Jvm.ClassFile.FieldType.int)) ∈ lw_all := lw_g (lw_at lw_m9 227 rfl) rfl
theorem q2289 : (Jvm.Cond.instanceMethod ({ cls := "WeatherWagesModel", name := "leaks", desc := "(I)I" } : Jvm.MethodName)) ∈ lw_all := lw_g (lw_at lw_m9 229 rfl) rfl
theorem q2290 : (Jvm.Cond.selects "WeatherWagesModel" ({ cls := "WeatherWagesModel", name := "leaks", desc := "(I)I" } : Jvm.MethodName) ({ cls := "WeatherWagesModel", name := "leaks", desc := "(I)I" } : Jvm.MethodName)) ∈ lw_all := lw_g (lw_at lw_m9 230 rfl) rfl
theorem q2291 : (Jvm.Cond.code ({ cls := "WeatherWagesModel", name := "leaks", desc := "(I)I" } : Jvm.MethodName) prog_22_method_87_code (4 : Nat) (Option.some Jvm.ClassFile.FieldType.int)) ∈ lw_all := lw_g (lw_at lw_m9 231 rfl) rfl
theorem q2292 : (Jvm.Cond.methodLink "WeatherWagesModel" (504 : Nat) ({ cls := "WeatherWagesModel", name := "layBestRow", desc := "(II)V" } : Jvm.MethodName)) ∈ lw_all := lw_g (lw_at lw_m9 232 rfl) rfl
theorem q2293 : (Jvm.Cond.privateMethod ({ cls := "WeatherWagesModel", name := "layBestRow", desc := "(II)V" } : Jvm.MethodName)) ∈ lw_tbl := lw_at lw_m9 233 rfl
theorem q2294 : (Jvm.Cond.instanceMethod ({ cls := "WeatherWagesModel", name := "layBestRow", desc := "(II)V" } : Jvm.MethodName)) ∈ lw_all := lw_g (lw_at lw_m9 234 rfl) rfl
theorem q2295 : (Jvm.Cond.code ({ cls := "WeatherWagesModel", name := "layBestRow", desc := "(II)V" } : Jvm.MethodName) prog_22_method_86_code (4 : Nat) (Option.none : Option Jvm.ClassFile.FieldType)) ∈ lw_all := lw_g (lw_at lw_m9 235 rfl) rfl
theorem q2297 : (Jvm.Cond.instanceMethod ({ cls := "WeatherWagesModel", name := "needs", desc := "(II)I" } : Jvm.MethodName)) ∈ lw_all := lw_g (lw_at lw_m9 237 rfl) rfl
theorem q2298 : (Jvm.Cond.selects "WeatherWagesModel" ({ cls := "WeatherWagesModel", name := "needs", desc := "(II)I" } : Jvm.MethodName) ({ cls := "WeatherWagesModel", name := "needs", desc := "(II)I" } : Jvm.MethodName)) ∈ lw_all := lw_g (lw_at lw_m9 238 rfl) rfl
theorem q2299 : (Jvm.Cond.code ({ cls := "WeatherWagesModel", name := "needs", desc := "(II)I" } : Jvm.MethodName) prog_22_method_88_code (7 : Nat) (Option.some Jvm.ClassFile.FieldType.int)) ∈ lw_all := lw_g (lw_at lw_m9 239 rfl) rfl
theorem q2301 : (Jvm.Cond.instanceMethod ({ cls := "WeatherWagesModel", name := "pool", desc := "(II)I" } : Jvm.MethodName)) ∈ lw_all := lw_g (lw_at lw_m10 1 rfl) rfl
theorem q2302 : (Jvm.Cond.selects "WeatherWagesModel" ({ cls := "WeatherWagesModel", name := "pool", desc := "(II)I" } : Jvm.MethodName) ({ cls := "WeatherWagesModel", name := "pool", desc := "(II)I" } : Jvm.MethodName)) ∈ lw_all := lw_g (lw_at lw_m10 2 rfl) rfl
theorem q2303 : (Jvm.Cond.code ({ cls := "WeatherWagesModel", name := "pool", desc := "(II)I" } : Jvm.MethodName) prog_22_method_92_code (3 : Nat) (Option.some Jvm.ClassFile.FieldType.int)) ∈ lw_all := lw_g (lw_at lw_m10 3 rfl) rfl
theorem q2304 : (Jvm.Cond.methodLink "WeatherWagesModel" (516 : Nat) ({ cls := "WeatherWagesModel", name := "areTwo", desc := "(II)Z" } : Jvm.MethodName)) ∈ lw_all := lw_g (lw_at lw_m10 4 rfl) rfl
theorem q2305 : (Jvm.Cond.privateMethod ({ cls := "WeatherWagesModel", name := "areTwo", desc := "(II)Z" } : Jvm.MethodName)) ∈ lw_tbl := lw_at lw_m10 5 rfl
theorem q2306 : (Jvm.Cond.instanceMethod ({ cls := "WeatherWagesModel", name := "areTwo", desc := "(II)Z" } : Jvm.MethodName)) ∈ lw_all := lw_g (lw_at lw_m10 6 rfl) rfl
theorem q2307 : (Jvm.Cond.code ({ cls := "WeatherWagesModel", name := "areTwo", desc := "(II)Z" } : Jvm.MethodName) prog_22_method_91_code (3 : Nat) (Option.some Jvm.ClassFile.FieldType.boolean)) ∈ lw_all := lw_g (lw_at lw_m10 7 rfl) rfl
theorem q2308 : (Jvm.Cond.methodLink "WeatherWagesModel" (519 : Nat) ({ cls := "WeatherWagesModel", name := "layPool", desc := "(II)V" } : Jvm.MethodName)) ∈ lw_all := lw_g (lw_at lw_m10 8 rfl) rfl
theorem q2309 : (Jvm.Cond.privateMethod ({ cls := "WeatherWagesModel", name := "layPool", desc := "(II)V" } : Jvm.MethodName)) ∈ lw_tbl := lw_at lw_m10 9 rfl
theorem q2310 : (Jvm.Cond.instanceMethod ({ cls := "WeatherWagesModel", name := "layPool", desc := "(II)V" } : Jvm.MethodName)) ∈ lw_all := lw_g (lw_at lw_m10 10 rfl) rfl
theorem q2311 : (Jvm.Cond.code ({ cls := "WeatherWagesModel", name := "layPool", desc := "(II)V" } : Jvm.MethodName) prog_22_method_90_code (5 : Nat) (Option.none : Option Jvm.ClassFile.FieldType)) ∈ lw_all := lw_g (lw_at lw_m10 11 rfl) rfl
theorem q2312 : (Jvm.Cond.methodLink "WeatherWagesModel" (513 : Nat) ({ cls := "WeatherWagesModel", name := "layOther", desc := "(III)V" } : Jvm.MethodName)) ∈ lw_all := lw_g (lw_at lw_m10 12 rfl) rfl
theorem q2313 : (Jvm.Cond.privateMethod ({ cls := "WeatherWagesModel", name := "layOther", desc := "(III)V" } : Jvm.MethodName)) ∈ lw_tbl := lw_at lw_m10 13 rfl
theorem q2314 : (Jvm.Cond.instanceMethod ({ cls := "WeatherWagesModel", name := "layOther", desc := "(III)V" } : Jvm.MethodName)) ∈ lw_all := lw_g (lw_at lw_m10 14 rfl) rfl
theorem q2315 : (Jvm.Cond.code ({ cls := "WeatherWagesModel", name := "layOther", desc := "(III)V" } : Jvm.MethodName) prog_22_method_89_code (7 : Nat) (Option.none : Option Jvm.ClassFile.FieldType)) ∈ lw_all := lw_g (lw_at lw_m10 15 rfl) rfl
theorem q2317 : (Jvm.Cond.instanceMethod ({ cls := "WeatherWagesModel", name := "joint", desc := "(II)I" } : Jvm.MethodName)) ∈ lw_all := lw_g (lw_at lw_m10 17 rfl) rfl
theorem q2318 : (Jvm.Cond.selects "WeatherWagesModel" ({ cls := "WeatherWagesModel", name := "joint", desc := "(II)I" } : Jvm.MethodName) ({ cls := "WeatherWagesModel", name := "joint", desc := "(II)I" } : Jvm.MethodName)) ∈ lw_all := lw_g (lw_at lw_m10 18 rfl) rfl
theorem q2319 : (Jvm.Cond.code ({ cls := "WeatherWagesModel", name := "joint", desc := "(II)I" } : Jvm.MethodName) prog_22_method_95_code (5 : Nat) (Option.some Jvm.ClassFile.FieldType.int)) ∈ lw_all := lw_g (lw_at lw_m10 19 rfl) rfl
theorem q2320 : (Jvm.Cond.methodLink "WeatherWagesModel" (522 : Nat) ({ cls := "WeatherWagesModel", name := "keepNow", desc := "()V" } : Jvm.MethodName)) ∈ lw_all := lw_g (lw_at lw_m10 20 rfl) rfl
theorem q2321 : (Jvm.Cond.privateMethod ({ cls := "WeatherWagesModel", name := "keepNow", desc := "()V" } : Jvm.MethodName)) ∈ lw_tbl := lw_at lw_m10 21 rfl
theorem q2322 : (Jvm.Cond.instanceMethod ({ cls := "WeatherWagesModel", name := "keepNow", desc := "()V" } : Jvm.MethodName)) ∈ lw_all := lw_g (lw_at lw_m10 22 rfl) rfl
theorem q2323 : (Jvm.Cond.code ({ cls := "WeatherWagesModel", name := "keepNow", desc := "()V" } : Jvm.MethodName) prog_22_method_93_code (2 : Nat) (Option.none : Option Jvm.ClassFile.FieldType)) ∈ lw_all := lw_g (lw_at lw_m10 23 rfl) rfl
theorem q2324 : (Jvm.Cond.methodLink "WeatherWagesModel" (525 : Nat) ({ cls := "WeatherWagesModel", name := "bringBack", desc := "()V" } : Jvm.MethodName)) ∈ lw_all := lw_g (lw_at lw_m10 24 rfl) rfl
theorem q2325 : (Jvm.Cond.privateMethod ({ cls := "WeatherWagesModel", name := "bringBack", desc := "()V" } : Jvm.MethodName)) ∈ lw_tbl := lw_at lw_m10 25 rfl
theorem q2326 : (Jvm.Cond.instanceMethod ({ cls := "WeatherWagesModel", name := "bringBack", desc := "()V" } : Jvm.MethodName)) ∈ lw_all := lw_g (lw_at lw_m10 26 rfl) rfl
theorem q2327 : (Jvm.Cond.code ({ cls := "WeatherWagesModel", name := "bringBack", desc := "()V" } : Jvm.MethodName) prog_22_method_94_code (2 : Nat) (Option.none : Option Jvm.ClassFile.FieldType)) ∈ lw_all := lw_g (lw_at lw_m10 27 rfl) rfl
theorem q2329 : (Jvm.Cond.instanceMethod ({ cls := "WeatherWagesModel", name := "rest", desc := "()I" } : Jvm.MethodName)) ∈ lw_all := lw_g (lw_at lw_m10 29 rfl) rfl
theorem q2330 : (Jvm.Cond.selects "WeatherWagesModel" ({ cls := "WeatherWagesModel", name := "rest", desc := "()I" } : Jvm.MethodName) ({ cls := "WeatherWagesModel", name := "rest", desc := "()I" } : Jvm.MethodName)) ∈ lw_all := lw_g (lw_at lw_m10 30 rfl) rfl
theorem q2331 : (Jvm.Cond.code ({ cls := "WeatherWagesModel", name := "rest", desc := "()I" } : Jvm.MethodName) prog_22_method_98_code (4 : Nat) (Option.some Jvm.ClassFile.FieldType.int)) ∈ lw_all := lw_g (lw_at lw_m10 31 rfl) rfl
theorem q2332 : (Jvm.Cond.methodLink "WeatherWagesModel" (528 : Nat) ({ cls := "WeatherWagesModel", name := "goRound", desc := "()Z" } : Jvm.MethodName)) ∈ lw_all := lw_g (lw_at lw_m10 32 rfl) rfl
theorem q2333 : (Jvm.Cond.privateMethod ({ cls := "WeatherWagesModel", name := "goRound", desc := "()Z" } : Jvm.MethodName)) ∈ lw_tbl := lw_at lw_m10 33 rfl
theorem q2334 : (Jvm.Cond.instanceMethod ({ cls := "WeatherWagesModel", name := "goRound", desc := "()Z" } : Jvm.MethodName)) ∈ lw_all := lw_g (lw_at lw_m10 34 rfl) rfl
theorem q2335 : (Jvm.Cond.code ({ cls := "WeatherWagesModel", name := "goRound", desc := "()Z" } : Jvm.MethodName) prog_22_method_97_code (4 : Nat) (Option.some Jvm.ClassFile.FieldType.boolean)) ∈ lw_all := lw_g (lw_at lw_m10 35 rfl) rfl
theorem q2336 : (Jvm.Cond.methodLink "WeatherWagesModel" (531 : Nat) ({ cls := "WeatherWagesModel", name := "spendsOf", desc := "(I)I" } : Jvm.MethodName)) ∈ lw_all := lw_g (lw_at lw_m10 36 rfl) rfl
theorem q2337 : (Jvm.Cond.privateMethod ({ cls := "WeatherWagesModel", name := "spendsOf", desc := "(I)I" } : Jvm.MethodName)) ∈ lw_tbl := lw_at lw_m10 37 rfl
theorem q2338 : (Jvm.Cond.instanceMethod ({ cls := "WeatherWagesModel", name := "spendsOf", desc := "(I)I" } : Jvm.MethodName)) ∈ lw_all := lw_g (lw_at lw_m10 38 rfl) rfl
theorem q2339 : (Jvm.Cond.code ({ cls := "WeatherWagesModel", name := "spendsOf", desc := "(I)I" } : Jvm.MethodName) prog_22_method_96_code (2 : Nat) (Option.some Jvm.ClassFile.FieldType.int)) ∈ lw_all := lw_g (lw_at lw_m10 39 rfl) rfl
theorem q2341 : (Jvm.Cond.instanceMethod ({ cls := "WeatherWagesModel", name := "will", desc := "(II)I" } : Jvm.MethodName)) ∈ lw_all := lw_g (lw_at lw_m10 41 rfl) rfl
theorem q2342 : (Jvm.Cond.selects "WeatherWagesModel" ({ cls := "WeatherWagesModel", name := "will", desc := "(II)I" } : Jvm.MethodName) ({ cls := "WeatherWagesModel", name := "will", desc := "(II)I" } : Jvm.MethodName)) ∈ lw_all := lw_g (lw_at lw_m10 42 rfl) rfl
theorem q2343 : (Jvm.Cond.code ({ cls := "WeatherWagesModel", name := "will", desc := "(II)I" } : Jvm.MethodName) prog_22_method_99_code (5 : Nat) (Option.some Jvm.ClassFile.FieldType.int)) ∈ lw_all := lw_g (lw_at lw_m10 43 rfl) rfl
theorem q2345 : (Jvm.Cond.instanceMethod ({ cls := "WeatherWagesModel", name := "thrive", desc := "(II)I" } : Jvm.MethodName)) ∈ lw_all := lw_g (lw_at lw_m10 45 rfl) rfl
theorem q2346 : (Jvm.Cond.selects "WeatherWagesModel" ({ cls := "WeatherWagesModel", name := "thrive", desc := "(II)I" } : Jvm.MethodName) ({ cls := "WeatherWagesModel", name := "thrive", desc := "(II)I" } : Jvm.MethodName)) ∈ lw_all := lw_g (lw_at lw_m10 46 rfl) rfl
theorem q2347 : (Jvm.Cond.code ({ cls := "WeatherWagesModel", name := "thrive", desc := "(II)I" } : Jvm.MethodName) prog_22_method_100_code (5 : Nat) (Option.some Jvm.ClassFile.FieldType.int)) ∈ lw_all := lw_g (lw_at lw_m10 47 rfl) rfl
theorem q2349 : (Jvm.Cond.instanceMethod ({ cls := "WeatherWagesModel", name := "saves", desc := "(III)I" } : Jvm.MethodName)) ∈ lw_all := lw_g (lw_at lw_m10 49 rfl) rfl
theorem q2350 : (Jvm.Cond.selects "WeatherWagesModel" ({ cls := "WeatherWagesModel", name := "saves", desc := "(III)I" } : Jvm.MethodName) ({ cls := "WeatherWagesModel", name := "saves", desc := "(III)I" } : Jvm.MethodName)) ∈ lw_all := lw_g (lw_at lw_m10 50 rfl) rfl
theorem q2351 : (Jvm.Cond.code ({ cls := "WeatherWagesModel", name := "saves", desc := "(III)I" } : Jvm.MethodName) prog_22_method_101_code (6 : Nat) (Option.some Jvm.ClassFile.FieldType.int)) ∈ lw_all := lw_g (lw_at lw_m10 51 rfl) rfl
theorem q2353 : (Jvm.Cond.instanceMethod ({ cls := "WeatherWagesModel", name := "richest", desc := "()I" } : Jvm.MethodName)) ∈ lw_all := lw_g (lw_at lw_m10 53 rfl) rfl
theorem q2354 : (Jvm.Cond.selects "WeatherWagesModel" ({ cls := "WeatherWagesModel", name := "richest", desc := "()I" } : Jvm.MethodName) ({ cls := "WeatherWagesModel", name := "richest", desc := "()I" } : Jvm.MethodName)) ∈ lw_all := lw_g (lw_at lw_m10 54 rfl) rfl
theorem q2355 : (Jvm.Cond.code ({ cls := "WeatherWagesModel", name := "richest", desc := "()I" } : Jvm.MethodName) prog_22_method_102_code (3 : Nat) (Option.some Jvm.ClassFile.FieldType.int)) ∈ lw_all := lw_g (lw_at lw_m10 55 rfl) rfl
theorem q2357 : (Jvm.Cond.instanceMethod ({ cls := "WeatherWagesModel", name := "gulf", desc := "()I" } : Jvm.MethodName)) ∈ lw_all := lw_g (lw_at lw_m10 57 rfl) rfl
theorem q2358 : (Jvm.Cond.selects "WeatherWagesModel" ({ cls := "WeatherWagesModel", name := "gulf", desc := "()I" } : Jvm.MethodName) ({ cls := "WeatherWagesModel", name := "gulf", desc := "()I" } : Jvm.MethodName)) ∈ lw_all := lw_g (lw_at lw_m10 58 rfl) rfl
theorem q2359 : (Jvm.Cond.code ({ cls := "WeatherWagesModel", name := "gulf", desc := "()I" } : Jvm.MethodName) prog_22_method_103_code (3 : Nat) (Option.some Jvm.ClassFile.FieldType.int)) ∈ lw_all := lw_g (lw_at lw_m10 59 rfl) rfl
theorem q2360 : (Jvm.Cond.methodLink "WeatherWagesModel" (534 : Nat) ({ cls := "WeatherWagesModel", name := "richest", desc := "()I" } : Jvm.MethodName)) ∈ lw_all := lw_g (lw_at lw_m10 60 rfl) rfl
theorem q2362 : (Jvm.Cond.instanceMethod ({ cls := "WeatherWagesModel", name := "most", desc := "(I)I" } : Jvm.MethodName)) ∈ lw_all := lw_g (lw_at lw_m10 62 rfl) rfl
theorem q2363 : (Jvm.Cond.selects "WeatherWagesModel" ({ cls := "WeatherWagesModel", name := "most", desc := "(I)I" } : Jvm.MethodName) ({ cls := "WeatherWagesModel", name := "most", desc := "(I)I" } : Jvm.MethodName)) ∈ lw_all := lw_g (lw_at lw_m10 63 rfl) rfl
theorem q2364 : (Jvm.Cond.code ({ cls := "WeatherWagesModel", name := "most", desc := "(I)I" } : Jvm.MethodName) prog_22_method_104_code (4 : Nat) (Option.some Jvm.ClassFile.FieldType.int)) ∈ lw_all := lw_g (lw_at lw_m10 64 rfl) rfl
theorem q2366 : (Jvm.Cond.instanceMethod ({ cls := "WeatherWagesModel", name := "gain", desc := "(I)I" } : Jvm.MethodName)) ∈ lw_all := lw_g (lw_at lw_m10 66 rfl) rfl
theorem q2367 : (Jvm.Cond.selects "WeatherWagesModel" ({ cls := "WeatherWagesModel", name := "gain", desc := "(I)I" } : Jvm.MethodName) ({ cls := "WeatherWagesModel", name := "gain", desc := "(I)I" } : Jvm.MethodName)) ∈ lw_all := lw_g (lw_at lw_m10 67 rfl) rfl
theorem q2368 : (Jvm.Cond.code ({ cls := "WeatherWagesModel", name := "gain", desc := "(I)I" } : Jvm.MethodName) prog_22_method_106_code (3 : Nat) (Option.some Jvm.ClassFile.FieldType.int)) ∈ lw_all := lw_g (lw_at lw_m10 68 rfl) rfl
theorem q2369 : (Jvm.Cond.methodLink "WeatherWagesModel" (546 : Nat) ({ cls := "WeatherWagesModel", name := "tryRound", desc := "(III)V" } : Jvm.MethodName)) ∈ lw_all := lw_g (lw_at lw_m10 69 rfl) rfl
theorem q2370 : (Jvm.Cond.privateMethod ({ cls := "WeatherWagesModel", name := "tryRound", desc := "(III)V" } : Jvm.MethodName)) ∈ lw_tbl := lw_at lw_m10 70 rfl
theorem q2371 : (Jvm.Cond.instanceMethod ({ cls := "WeatherWagesModel", name := "tryRound", desc := "(III)V" } : Jvm.MethodName)) ∈ lw_all := lw_g (lw_at lw_m10 71 rfl) rfl
theorem q2372 : (Jvm.Cond.code ({ cls := "WeatherWagesModel", name := "tryRound", desc := "(III)V" } : Jvm.MethodName) prog_22_method_105_code (9 : Nat) (Option.none : Option Jvm.ClassFile.FieldType)) ∈ lw_all := lw_g (lw_at lw_m10 72 rfl) rfl
theorem q2373 : (Jvm.Cond.methodLink "WeatherWagesModel" (549 : Nat) ({ cls := "WeatherWagesModel", name := "divisor", desc := "(II)I" } : Jvm.MethodName)) ∈ lw_all := lw_g (lw_at lw_m10 73 rfl) rfl
theorem q2374 : (Jvm.Cond.static ({ cls := "WeatherWagesModel", name := "divisor", desc := "(II)I" } : Jvm.MethodName)) ∈ lw_all := lw_g (lw_at lw_m10 74 rfl) rfl
theorem q2375 : (Jvm.Cond.code ({ cls := "WeatherWagesModel", name := "divisor", desc := "(II)I" } : Jvm.MethodName) prog_22_method_46_code (5 : Nat) (Option.some Jvm.ClassFile.FieldType.int)) ∈ lw_all := lw_g (lw_at lw_m10 75 rfl) rfl
theorem q2377 : (Jvm.Cond.instanceMethod ({ cls := "WeatherWagesModel", name := "least", desc := "(IIZ)I" } : Jvm.MethodName)) ∈ lw_all := lw_g (lw_at lw_m10 77 rfl) rfl
theorem q2378 : (Jvm.Cond.selects "WeatherWagesModel" ({ cls := "WeatherWagesModel", name := "least", desc := "(IIZ)I" } : Jvm.MethodName) ({ cls := "WeatherWagesModel", name := "least", desc := "(IIZ)I" } : Jvm.MethodName)) ∈ lw_all := lw_g (lw_at lw_m10 78 rfl) rfl
theorem q2379 : (Jvm.Cond.code ({ cls := "WeatherWagesModel", name := "least", desc := "(IIZ)I" } : Jvm.MethodName) prog_22_method_110_code (4 : Nat) (Option.some Jvm.ClassFile.FieldType.int)) ∈ lw_all := lw_g (lw_at lw_m10 79 rfl) rfl
theorem q2380 : (Jvm.Cond.methodLink "WeatherWagesModel" (558 : Nat) ({ cls := "WeatherWagesModel", name := "isFirst", desc := "(I)Z" } : Jvm.MethodName)) ∈ lw_all := lw_g (lw_at lw_m10 80 rfl) rfl
theorem q2381 : (Jvm.Cond.privateMethod ({ cls := "WeatherWagesModel", name := "isFirst", desc := "(I)Z" } : Jvm.MethodName)) ∈ lw_tbl := lw_at lw_m10 81 rfl
theorem q2382 : (Jvm.Cond.instanceMethod ({ cls := "WeatherWagesModel", name := "isFirst", desc := "(I)Z" } : Jvm.MethodName)) ∈ lw_all := lw_g (lw_at lw_m10 82 rfl) rfl
theorem q2383 : (Jvm.Cond.code ({ cls := "WeatherWagesModel", name := "isFirst", desc := "(I)Z" } : Jvm.MethodName) prog_22_method_108_code (2 : Nat) (Option.some Jvm.ClassFile.FieldType.boolean)) ∈ lw_all := lw_g (lw_at lw_m10 83 rfl) rfl
theorem q2384 : (Jvm.Cond.methodLink "WeatherWagesModel" (552 : Nat) ({ cls := "WeatherWagesModel", name := "firsts", desc := "()I" } : Jvm.MethodName)) ∈ lw_all := lw_g (lw_at lw_m10 84 rfl) rfl
theorem q2385 : (Jvm.Cond.privateMethod ({ cls := "WeatherWagesModel", name := "firsts", desc := "()I" } : Jvm.MethodName)) ∈ lw_tbl := lw_at lw_m10 85 rfl
theorem q2386 : (Jvm.Cond.instanceMethod ({ cls := "WeatherWagesModel", name := "firsts", desc := "()I" } : Jvm.MethodName)) ∈ lw_all := lw_g (lw_at lw_m10 86 rfl) rfl
theorem q2387 : (Jvm.Cond.code ({ cls := "WeatherWagesModel", name := "firsts", desc := "()I" } : Jvm.MethodName) prog_22_method_107_code (1 : Nat) (Option.some Jvm.ClassFile.FieldType.int)) ∈ lw_all := lw_g (lw_at lw_m10 87 rfl) rfl
theorem q2388 : (Jvm.Cond.methodLink "WeatherWagesModel" (561 : Nat) ({ cls := "WeatherWagesModel", name := "tell", desc := "(IIIZ)I" } : Jvm.MethodName)) ∈ lw_all := lw_g (lw_at lw_m10 88 rfl) rfl
theorem q2389 : (Jvm.Cond.privateMethod ({ cls := "WeatherWagesModel", name := "tell", desc := "(IIIZ)I" } : Jvm.MethodName)) ∈ lw_tbl := lw_at lw_m10 89 rfl
theorem q2390 : (Jvm.Cond.instanceMethod ({ cls := "WeatherWagesModel", name := "tell", desc := "(IIIZ)I" } : Jvm.MethodName)) ∈ lw_all := lw_g (lw_at lw_m10 90 rfl) rfl
theorem q2391 : (Jvm.Cond.code ({ cls := "WeatherWagesModel", name := "tell", desc := "(IIIZ)I" } : Jvm.MethodName) prog_22_method_109_code (5 : Nat) (Option.some Jvm.ClassFile.FieldType.int)) ∈ lw_all := lw_g (lw_at lw_m10 91 rfl) rfl
theorem q2393 : (Jvm.Cond.instanceMethod ({ cls := "WeatherWagesModel", name := "more", desc := "(IIZ)I" } : Jvm.MethodName)) ∈ lw_all := lw_g (lw_at lw_m10 93 rfl) rfl
theorem q2394 : (Jvm.Cond.selects "WeatherWagesModel" ({ cls := "WeatherWagesModel", name := "more", desc := "(IIZ)I" } : Jvm.MethodName) ({ cls := "WeatherWagesModel", name := "more", desc := "(IIZ)I" } : Jvm.MethodName)) ∈ lw_all := lw_g (lw_at lw_m10 94 rfl) rfl
theorem q2395 : (Jvm.Cond.code ({ cls := "WeatherWagesModel", name := "more", desc := "(IIZ)I" } : Jvm.MethodName) prog_22_method_111_code (4 : Nat) (Option.some Jvm.ClassFile.FieldType.int)) ∈ lw_all := lw_g (lw_at lw_m10 95 rfl) rfl
theorem q2397 : (Jvm.Cond.instanceMethod ({ cls := "WeatherWagesModel", name := "untell", desc := "(I)Z" } : Jvm.MethodName)) ∈ lw_all := lw_g (lw_at lw_m10 97 rfl) rfl
theorem q2398 : (Jvm.Cond.selects "WeatherWagesModel" ({ cls := "WeatherWagesModel", name := "untell", desc := "(I)Z" } : Jvm.MethodName) ({ cls := "WeatherWagesModel", name := "untell", desc := "(I)Z" } : Jvm.MethodName)) ∈ lw_all := lw_g (lw_at lw_m10 98 rfl) rfl
theorem q2399 : (Jvm.Cond.code ({ cls := "WeatherWagesModel", name := "untell", desc := "(I)Z" } : Jvm.MethodName) prog_22_method_112_code (2 : Nat) (Option.some Jvm.ClassFile.FieldType.boolean)) ∈ lw_all := lw_g (lw_at lw_m10 99 rfl) rfl
theorem q2401 : (Jvm.Cond.instanceMethod ({ cls := "WeatherWagesModel", name := "later", desc := "(I)I" } : Jvm.MethodName)) ∈ lw_all := lw_g (lw_at lw_m10 101 rfl) rfl
theorem q2402 : (Jvm.Cond.selects "WeatherWagesModel" ({ cls := "WeatherWagesModel", name := "later", desc := "(I)I" } : Jvm.MethodName) ({ cls := "WeatherWagesModel", name := "later", desc := "(I)I" } : Jvm.MethodName)) ∈ lw_all := lw_g (lw_at lw_m10 102 rfl) rfl
theorem q2403 : (Jvm.Cond.code ({ cls := "WeatherWagesModel", name := "later", desc := "(I)I" } : Jvm.MethodName) prog_22_method_113_code (2 : Nat) (Option.some Jvm.ClassFile.FieldType.int)) ∈ lw_all := lw_g (lw_at lw_m10 103 rfl) rfl
theorem q2404 : (Jvm.Cond.constant "WeatherWagesModel" (565 : Nat) (100000 : Int32)) ∈ lw_all := lw_g (lw_at lw_m10 104 rfl) rfl
theorem q2406 : (Jvm.Cond.instanceMethod ({ cls := "WeatherWagesModel", name := "orders", desc := "(I)I" } : Jvm.MethodName)) ∈ lw_all := lw_g (lw_at lw_m10 106 rfl) rfl
theorem q2407 : (Jvm.Cond.selects "WeatherWagesModel" ({ cls := "WeatherWagesModel", name := "orders", desc := "(I)I" } : Jvm.MethodName) ({ cls := "WeatherWagesModel", name := "orders", desc := "(I)I" } : Jvm.MethodName)) ∈ lw_all := lw_g (lw_at lw_m10 107 rfl) rfl
theorem q2408 : (Jvm.Cond.code ({ cls := "WeatherWagesModel", name := "orders", desc := "(I)I" } : Jvm.MethodName) prog_22_method_118_code (2 : Nat) (Option.some Jvm.ClassFile.FieldType.int)) ∈ lw_all := lw_g (lw_at lw_m10 108 rfl) rfl
theorem q2409 : (Jvm.Cond.methodLink "WeatherWagesModel" (578 : Nat) ({ cls := "WeatherWagesModel", name := "layOrders", desc := "(I)V" } : Jvm.MethodName)) ∈ lw_all := lw_g (lw_at lw_m10 109 rfl) rfl
theorem q2410 : (Jvm.Cond.privateMethod ({ cls := "WeatherWagesModel", name := "layOrders", desc := "(I)V" } : Jvm.MethodName)) ∈ lw_tbl := lw_at lw_m10 110 rfl
theorem q2411 : (Jvm.Cond.instanceMethod ({ cls := "WeatherWagesModel", name := "layOrders", desc := "(I)V" } : Jvm.MethodName)) ∈ lw_all := lw_g (lw_at lw_m10 111 rfl) rfl
theorem q2412 : (Jvm.Cond.code ({ cls := "WeatherWagesModel", name := "layOrders", desc := "(I)V" } : Jvm.MethodName) prog_22_method_117_code (5 : Nat) (Option.none : Option Jvm.ClassFile.FieldType)) ∈ lw_all := lw_g (lw_at lw_m10 112 rfl) rfl
theorem q2413 : (Jvm.Cond.methodLink "WeatherWagesModel" (572 : Nat) ({ cls := "WeatherWagesModel", name := "layOrder", desc := "(I)Z" } : Jvm.MethodName)) ∈ lw_all := lw_g (lw_at lw_m10 113 rfl) rfl
theorem q2414 : (Jvm.Cond.privateMethod ({ cls := "WeatherWagesModel", name := "layOrder", desc := "(I)Z" } : Jvm.MethodName)) ∈ lw_tbl := lw_at lw_m10 114 rfl
theorem q2415 : (Jvm.Cond.instanceMethod ({ cls := "WeatherWagesModel", name := "layOrder", desc := "(I)Z" } : Jvm.MethodName)) ∈ lw_all := lw_g (lw_at lw_m10 115 rfl) rfl
theorem q2416 : (Jvm.Cond.code ({ cls := "WeatherWagesModel", name := "layOrder", desc := "(I)Z" } : Jvm.MethodName) prog_22_method_116_code (5 : Nat) (Option.some Jvm.ClassFile.FieldType.boolean)) ∈ lw_all := lw_g (lw_at lw_m10 116 rfl) rfl
theorem q2417 : (Jvm.Cond.methodLink "WeatherWagesModel" (575 : Nat) ({ cls := "WeatherWagesModel", name := "doesFit", desc := "(I)Z" } : Jvm.MethodName)) ∈ lw_all := lw_g (lw_at lw_m10 117 rfl) rfl
theorem q2418 : (Jvm.Cond.privateMethod ({ cls := "WeatherWagesModel", name := "doesFit", desc := "(I)Z" } : Jvm.MethodName)) ∈ lw_tbl := lw_at lw_m10 118 rfl
theorem q2419 : (Jvm.Cond.instanceMethod ({ cls := "WeatherWagesModel", name := "doesFit", desc := "(I)Z" } : Jvm.MethodName)) ∈ lw_all := lw_g (lw_at lw_m10 119 rfl) rfl
theorem q2420 : (Jvm.Cond.code ({ cls := "WeatherWagesModel", name := "doesFit", desc := "(I)Z" } : Jvm.MethodName) prog_22_method_115_code (4 : Nat) (Option.some Jvm.ClassFile.FieldType.boolean)) ∈ lw_all := lw_g (lw_at lw_m10 120 rfl) rfl
theorem q2421 : (Jvm.Cond.methodLink "WeatherWagesModel" (566 : Nat) ({ cls := "WeatherWagesModel", name := "tells", desc := "(I)I" } : Jvm.MethodName)) ∈ lw_all := lw_g (lw_at lw_m10 121 rfl) rfl
theorem q2422 : (Jvm.Cond.privateMethod ({ cls := "WeatherWagesModel", name := "tells", desc := "(I)I" } : Jvm.MethodName)) ∈ lw_tbl := lw_at lw_m10 122 rfl
theorem q2423 : (Jvm.Cond.instanceMethod ({ cls := "WeatherWagesModel", name := "tells", desc := "(I)I" } : Jvm.MethodName)) ∈ lw_all := lw_g (lw_at lw_m10 123 rfl) rfl
theorem q2424 : (Jvm.Cond.code ({ cls := "WeatherWagesModel", name := "tells", desc := "(I)I" } : Jvm.MethodName) prog_22_method_114_code (2 : Nat) (Option.some Jvm.ClassFile.FieldType.int)) ∈ lw_all := lw_g (lw_at lw_m10 124 rfl) rfl
theorem q2426 : (Jvm.Cond.instanceMethod ({ cls := "WeatherWagesModel", name := "sure", desc := "(II)I" } : Jvm.MethodName)) ∈ lw_all := lw_g (lw_at lw_m10 126 rfl) rfl
theorem q2427 : (Jvm.Cond.selects "WeatherWagesModel" ({ cls := "WeatherWagesModel", name := "sure", desc := "(II)I" } : Jvm.MethodName) ({ cls := "WeatherWagesModel", name := "sure", desc := "(II)I" } : Jvm.MethodName)) ∈ lw_all := lw_g (lw_at lw_m10 127 rfl) rfl
theorem q2428 : (Jvm.Cond.code ({ cls := "WeatherWagesModel", name := "sure", desc := "(II)I" } : Jvm.MethodName) prog_22_method_119_code (4 : Nat) (Option.some Jvm.ClassFile.FieldType.int)) ∈ lw_all := lw_g (lw_at lw_m10 128 rfl) rfl
theorem q2430 : (Jvm.Cond.instanceMethod ({ cls := "WeatherWagesModel", name := "ask", desc := "(II)I" } : Jvm.MethodName)) ∈ lw_all := lw_g (lw_at lw_m10 130 rfl) rfl
theorem q2431 : (Jvm.Cond.selects "WeatherWagesModel" ({ cls := "WeatherWagesModel", name := "ask", desc := "(II)I" } : Jvm.MethodName) ({ cls := "WeatherWagesModel", name := "ask", desc := "(II)I" } : Jvm.MethodName)) ∈ lw_all := lw_g (lw_at lw_m10 131 rfl) rfl
theorem q2432 : (Jvm.Cond.code ({ cls := "WeatherWagesModel", name := "ask", desc := "(II)I" } : Jvm.MethodName) prog_22_method_120_code (8 : Nat) (Option.some Jvm.ClassFile.FieldType.int)) ∈ lw_all := lw_g (lw_at lw_m10 132 rfl) rfl
theorem q2434 : (Jvm.Cond.instanceMethod ({ cls := "WeatherWagesModel", name := "image", desc := "(I)I" } : Jvm.MethodName)) ∈ lw_all := lw_g (lw_at lw_m10 134 rfl) rfl
theorem q2435 : (Jvm.Cond.selects "WeatherWagesModel" ({ cls := "WeatherWagesModel", name := "image", desc := "(I)I" } : Jvm.MethodName) ({ cls := "WeatherWagesModel", name := "image", desc := "(I)I" } : Jvm.MethodName)) ∈ lw_all := lw_g (lw_at lw_m10 135 rfl) rfl
theorem q2436 : (Jvm.Cond.code ({ cls := "WeatherWagesModel", name := "image", desc := "(I)I" } : Jvm.MethodName) prog_22_method_121_code (3 : Nat) (Option.some Jvm.ClassFile.FieldType.int)) ∈ lw_all := lw_g (lw_at lw_m10 136 rfl) rfl
theorem q2438 : (Jvm.Cond.instanceMethod ({ cls := "WeatherWagesModel", name := "back", desc := "(I)I" } : Jvm.MethodName)) ∈ lw_all := lw_g (lw_at lw_m10 138 rfl) rfl
theorem q2439 : (Jvm.Cond.selects "WeatherWagesModel" ({ cls := "WeatherWagesModel", name := "back", desc := "(I)I" } : Jvm.MethodName) ({ cls := "WeatherWagesModel", name := "back", desc := "(I)I" } : Jvm.MethodName)) ∈ lw_all := lw_g (lw_at lw_m10 139 rfl) rfl
theorem q2440 : (Jvm.Cond.code ({ cls := "WeatherWagesModel", name := "back", desc := "(I)I" } : Jvm.MethodName) prog_22_method_122_code (3 : Nat) (Option.some Jvm.ClassFile.FieldType.int)) ∈ lw_all := lw_g (lw_at lw_m10 140 rfl) rfl
theorem q2442 : (Jvm.Cond.instanceMethod ({ cls := "WeatherWagesModel", name := "about", desc := "(I)I" } : Jvm.MethodName)) ∈ lw_all := lw_g (lw_at lw_m10 142 rfl) rfl
theorem q2443 : (Jvm.Cond.selects "WeatherWagesModel" ({ cls := "WeatherWagesModel", name := "about", desc := "(I)I" } : Jvm.MethodName) ({ cls := "WeatherWagesModel", name := "about", desc := "(I)I" } : Jvm.MethodName)) ∈ lw_all := lw_g (lw_at lw_m10 143 rfl) rfl
theorem q2444 : (Jvm.Cond.code ({ cls := "WeatherWagesModel", name := "about", desc := "(I)I" } : Jvm.MethodName) prog_22_method_123_code (2 : Nat) (Option.some Jvm.ClassFile.FieldType.int)) ∈ lw_all := lw_g (lw_at lw_m10 144 rfl) rfl
theorem q2446 : (Jvm.Cond.instanceMethod ({ cls := "WeatherWagesModel", name := "feed", desc := "(IIIII)I" } : Jvm.MethodName)) ∈ lw_all := lw_g (lw_at lw_m10 146 rfl) rfl
theorem q2447 : (Jvm.Cond.selects "WeatherWagesModel" ({ cls := "WeatherWagesModel", name := "feed", desc := "(IIIII)I" } : Jvm.MethodName) ({ cls := "WeatherWagesModel", name := "feed", desc := "(IIIII)I" } : Jvm.MethodName)) ∈ lw_all := lw_g (lw_at lw_m10 147 rfl) rfl
theorem q2448 : (Jvm.Cond.code ({ cls := "WeatherWagesModel", name := "feed", desc := "(IIIII)I" } : Jvm.MethodName) prog_22_method_124_code (8 : Nat) (Option.some Jvm.ClassFile.FieldType.int)) ∈ lw_all := lw_g (lw_at lw_m10 148 rfl) rfl
theorem q2450 : (Jvm.Cond.instanceMethod ({ cls := "WeatherWagesModel", name := "end", desc := "(I)I" } : Jvm.MethodName)) ∈ lw_all := lw_g (lw_at lw_m10 150 rfl) rfl
theorem q2451 : (Jvm.Cond.selects "WeatherWagesModel" ({ cls := "WeatherWagesModel", name := "end", desc := "(I)I" } : Jvm.MethodName) ({ cls := "WeatherWagesModel", name := "end", desc := "(I)I" } : Jvm.MethodName)) ∈ lw_all := lw_g (lw_at lw_m10 151 rfl) rfl
theorem q2452 : (Jvm.Cond.code ({ cls := "WeatherWagesModel", name := "end", desc := "(I)I" } : Jvm.MethodName) prog_22_method_125_code (2 : Nat) (Option.some Jvm.ClassFile.FieldType.int)) ∈ lw_all := lw_g (lw_at lw_m10 152 rfl) rfl
theorem q2464 : (Jvm.Cond.castable "WeatherWagesModel" "java/lang/Object") ∈ lw_tbl := lw_at lw_m10 164 rfl
theorem in_X4 : ∀ w ∈ wsX40, w ∈ lw_all := lw_in wsX40 [1786, 1788, 1790, 1792, 1794, 1796, 1798, 1800, 1802, 1804, 1806, 1808, 1810, 1812, 1814, 1816, 1818, 1820, 1822, 1824, 1826, 1828, 1830, 1832, 1834, 1836, 1838, 1840, 1842, 1844, 1846, 1848, 1850, 1852, 1854, 1856, 1858, 1860, 1862, 1864, 1866, 1868, 1870, 1872, 1874, 1876, 1878, 1880, 1882, 1884, 1886, 1888, 1890, 1892, 1894, 1896, 1898, 1900, 1902, 1904, 1906, 1908, 1910, 1912, 1914, 1916, 1918, 1920, 1922, 1924, 1926, 1928, 1930, 1932, 1934, 1936, 1938, 1940, 1942, 1944, 1946, 1948, 1950] (by decide +kernel) (by decide +kernel)

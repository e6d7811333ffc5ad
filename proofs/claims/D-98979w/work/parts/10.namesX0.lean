/-! WeatherWages -/
set_option maxRecDepth 100000
def RX0 : String := "WeatherWages"
def TX0 : u_T := fun k => match k with
  | 0 => ("WeatherWages", "tape", "[B", true)
  | 1 => ("WeatherWages", "taped", "I", false)
  | 2 => ("WeatherWages", "faultKind", "I", false)
  | 3 => ("WeatherWages", "faultPlace", "I", false)
  | 4 => ("WeatherWages", "book", "LWeatherWages$Book;", false)
  | 5 => ("WeatherWages", "now", "LWeatherWages$Plots;", true)
  | 6 => ("WeatherWages", "spare", "LWeatherWages$Plots;", true)
  | 7 => ("WeatherWages", "tried", "LWeatherWages$Plots;", true)
  | 8 => ("WeatherWages", "ahead", "LWeatherWages$Plots;", true)
  | 9 => ("WeatherWages", "time", "I", false)
  | 10 => ("WeatherWages", "were", "[LWeatherWages$Plots;", true)
  | 11 => ("WeatherWages", "acts", "I", false)
  | 12 => ("WeatherWages", "undone", "I", false)
  | 13 => ("WeatherWages", "row", "[I", true)
  | 14 => ("WeatherWages", "bestRow", "[I", true)
  | 15 => ("WeatherWages", "lies", "[I", true)
  | 16 => ("WeatherWages", "bestHours", "I", false)
  | 17 => ("WeatherWages", "bestGrowth", "I", false)
  | 18 => ("WeatherWages", "lain", "I", false)
  | 19 => ("WeatherWages", "both", "[I", true)
  | 20 => ("WeatherWages", "bestBoth", "[I", true)
  | 21 => ("WeatherWages", "spends", "[I", true)
  | 22 => ("WeatherWages", "gainUp", "I", false)
  | 23 => ("WeatherWages", "gainDown", "I", false)
  | 24 => ("WeatherWages", "gainOf", "I", false)
  | 25 => ("WeatherWages", "sights", "Ljava/util/ArrayList;", true)
  | 26 => ("WeatherWages", "given", "[I", true)
  | 27 => ("WeatherWages", "tally", "[[I", true)
  | 28 => ("WeatherWages", "boxes", "[LWeatherWages$Plots;", true)
  | _ => ("WeatherWages", "isThere", "[Z", true)
def tyX0 : Nat → FieldType := fun k => match k with
  | 0 => .array .byte
  | 1 => .int
  | 2 => .int
  | 3 => .int
  | 4 => .object "WeatherWages$Book"
  | 5 => .object "WeatherWages$Plots"
  | 6 => .object "WeatherWages$Plots"
  | 7 => .object "WeatherWages$Plots"
  | 8 => .object "WeatherWages$Plots"
  | 9 => .int
  | 10 => .array (.object "WeatherWages$Plots")
  | 11 => .int
  | 12 => .int
  | 13 => .array .int
  | 14 => .array .int
  | 15 => .array .int
  | 16 => .int
  | 17 => .int
  | 18 => .int
  | 19 => .array .int
  | 20 => .array .int
  | 21 => .array .int
  | 22 => .int
  | 23 => .int
  | 24 => .int
  | 25 => .object "java/util/ArrayList"
  | 26 => .array .int
  | 27 => .array (.array .int)
  | 28 => .array (.object "WeatherWages$Plots")
  | _ => .array .boolean
abbrev wsX00 : List Cond := u_ws RX0 TX0 30
set_option maxRecDepth 100000 in
theorem nmX0 : ∀ a, a < 30 → ∀ b, b < 30 → a ≠ b → (TX0 a).2.1 ≠ (TX0 b).2.1 := by decide +kernel
set_option maxRecDepth 100000 in
theorem tyX0_ok : ∀ k, k < 30 → parseFieldDescriptor (TX0 k).2.2.1 = some (tyX0 k) := by decide +kernel
abbrev cX0_init : ByteArray := prog_1_method_2_code
def yX0_init : MethodName := ⟨RX0, "<init>", "()V"⟩
def dkwX0_init_9 : List UInt8 := [162, 0, 22, 42, 180, 0, 84, 27, 187, 0, 24, 89, 183, 0, 26, 83, 132, 1, 1, 167, 255, 235, 177]
abbrev dktX0_init_9 : List UInt8 := dkwX0_init_9 ++ []
def dkwX0_init_8 : List UInt8 := [180, 0, 44, 27, 187, 0, 24, 89, 183, 0, 26, 83, 132, 1, 1, 167, 255, 234, 3, 60, 27, 6]
abbrev dktX0_init_8 : List UInt8 := dkwX0_init_8 ++ dktX0_init_9
def dkwX0_init_7 : List UInt8 := [42, 6, 189, 0, 24, 181, 0, 84, 42, 6, 188, 4, 181, 0, 87, 3, 60, 27, 16, 40, 162, 0, 22, 42]
abbrev dktX0_init_7 : List UInt8 := dkwX0_init_7 ++ dktX0_init_8
def dkwX0_init_6 : List UInt8 := [5, 183, 0, 69, 181, 0, 72, 42, 8, 188, 10, 181, 0, 76, 42, 8, 8, 197, 0, 79, 2, 181, 0, 81]
abbrev dktX0_init_6 : List UInt8 := dkwX0_init_6 ++ dktX0_init_7
def dkwX0_init_5 : List UInt8 := [181, 0, 58, 42, 16, 6, 188, 10, 181, 0, 61, 42, 16, 15, 188, 10, 181, 0, 64, 42, 187, 0, 67, 89]
abbrev dktX0_init_5 : List UInt8 := dkwX0_init_5 ++ dktX0_init_6
def dkwX0_init_4 : List UInt8 := [181, 0, 48, 42, 6, 188, 10, 181, 0, 52, 42, 16, 6, 188, 10, 181, 0, 55, 42, 16, 6, 188, 10]
abbrev dktX0_init_4 : List UInt8 := dkwX0_init_4 ++ dktX0_init_5
def dkwX0_init_3 : List UInt8 := [187, 0, 24, 89, 183, 0, 26, 181, 0, 41, 42, 16, 40, 189, 0, 24, 181, 0, 44, 42, 6, 188, 10]
abbrev dktX0_init_3 : List UInt8 := dkwX0_init_3 ++ dktX0_init_4
def dkwX0_init_2 : List UInt8 := [42, 187, 0, 24, 89, 183, 0, 26, 181, 0, 35, 42, 187, 0, 24, 89, 183, 0, 26, 181, 0, 38, 42]
abbrev dktX0_init_2 : List UInt8 := dkwX0_init_2 ++ dktX0_init_3
def dkwX0_init_1 : List UInt8 := [183, 0, 19, 181, 0, 20, 42, 187, 0, 24, 89, 183, 0, 26, 42, 180, 0, 20, 182, 0, 27, 181, 0, 31]
abbrev dktX0_init_1 : List UInt8 := dkwX0_init_1 ++ dktX0_init_2
def dkwX0_init_0 : List UInt8 := [42, 183, 0, 1, 42, 17, 6, 64, 188, 8, 181, 0, 9, 42, 2, 181, 0, 13, 42, 187, 0, 17, 89]
abbrev dktX0_init_0 : List UInt8 := dkwX0_init_0 ++ dktX0_init_1
theorem dksX0_init_0 : cX0_init.data.toList.drop 0 = dktX0_init_0 := by decide +kernel
theorem dksX0_init_1 : cX0_init.data.toList.drop 23 = dktX0_init_1 := dk_seg dksX0_init_0 23 rfl rfl
theorem dksX0_init_2 : cX0_init.data.toList.drop 47 = dktX0_init_2 := dk_seg dksX0_init_1 24 rfl rfl
theorem dksX0_init_3 : cX0_init.data.toList.drop 70 = dktX0_init_3 := dk_seg dksX0_init_2 23 rfl rfl
theorem dksX0_init_4 : cX0_init.data.toList.drop 93 = dktX0_init_4 := dk_seg dksX0_init_3 23 rfl rfl
theorem dksX0_init_5 : cX0_init.data.toList.drop 116 = dktX0_init_5 := dk_seg dksX0_init_4 23 rfl rfl
theorem dksX0_init_6 : cX0_init.data.toList.drop 140 = dktX0_init_6 := dk_seg dksX0_init_5 24 rfl rfl
theorem dksX0_init_7 : cX0_init.data.toList.drop 164 = dktX0_init_7 := dk_seg dksX0_init_6 24 rfl rfl
theorem dksX0_init_8 : cX0_init.data.toList.drop 188 = dktX0_init_8 := dk_seg dksX0_init_7 24 rfl rfl
theorem dksX0_init_9 : cX0_init.data.toList.drop 210 = dktX0_init_9 := dk_seg dksX0_init_8 22 rfl rfl
theorem dX0_init_0 : decode cX0_init 0 = .ok (.aload_n 0, 1) := dk_42 (dk_at dksX0_init_0 0 rfl rfl)
theorem dX0_init_1 : decode cX0_init 1 = .ok (.invokespecial 1, 3) := dk_183 0 1 (dk_at dksX0_init_0 1 rfl rfl)
theorem dX0_init_4 : decode cX0_init 4 = .ok (.aload_n 0, 1) := dk_42 (dk_at dksX0_init_0 4 rfl rfl)
theorem dX0_init_5 : decode cX0_init 5 = .ok (.sipush 1600, 3) := dk_17 6 64 (dk_at dksX0_init_0 5 rfl rfl)
theorem dX0_init_8 : decode cX0_init 8 = .ok (.newarray .byte, 2) := dk_188_8 (dk_at dksX0_init_0 8 rfl rfl)
theorem dX0_init_10 : decode cX0_init 10 = .ok (.putfield 9, 3) := dk_181 0 9 (dk_at dksX0_init_0 10 rfl rfl)
theorem dX0_init_13 : decode cX0_init 13 = .ok (.aload_n 0, 1) := dk_42 (dk_at dksX0_init_0 13 rfl rfl)
theorem dX0_init_14 : decode cX0_init 14 = .ok (.iconst (-1), 1) := dk_2 (dk_at dksX0_init_0 14 rfl rfl)
theorem dX0_init_15 : decode cX0_init 15 = .ok (.putfield 13, 3) := dk_181 0 13 (dk_at dksX0_init_0 15 rfl rfl)
theorem dX0_init_18 : decode cX0_init 18 = .ok (.aload_n 0, 1) := dk_42 (dk_at dksX0_init_0 18 rfl rfl)
theorem dX0_init_19 : decode cX0_init 19 = .ok (.new 17, 3) := dk_187 0 17 (dk_at dksX0_init_0 19 rfl rfl)
theorem dX0_init_22 : decode cX0_init 22 = .ok (.dup, 1) := dk_89 (dk_at dksX0_init_0 22 rfl rfl)
theorem dX0_init_23 : decode cX0_init 23 = .ok (.invokespecial 19, 3) := dk_183 0 19 (dk_at dksX0_init_1 0 rfl rfl)
theorem dX0_init_26 : decode cX0_init 26 = .ok (.putfield 20, 3) := dk_181 0 20 (dk_at dksX0_init_1 3 rfl rfl)
theorem dX0_init_29 : decode cX0_init 29 = .ok (.aload_n 0, 1) := dk_42 (dk_at dksX0_init_1 6 rfl rfl)
theorem dX0_init_30 : decode cX0_init 30 = .ok (.new 24, 3) := dk_187 0 24 (dk_at dksX0_init_1 7 rfl rfl)
theorem dX0_init_33 : decode cX0_init 33 = .ok (.dup, 1) := dk_89 (dk_at dksX0_init_1 10 rfl rfl)
theorem dX0_init_34 : decode cX0_init 34 = .ok (.invokespecial 26, 3) := dk_183 0 26 (dk_at dksX0_init_1 11 rfl rfl)
theorem dX0_init_37 : decode cX0_init 37 = .ok (.aload_n 0, 1) := dk_42 (dk_at dksX0_init_1 14 rfl rfl)
theorem dX0_init_38 : decode cX0_init 38 = .ok (.getfield 20, 3) := dk_180 0 20 (dk_at dksX0_init_1 15 rfl rfl)
theorem dX0_init_41 : decode cX0_init 41 = .ok (.invokevirtual 27, 3) := dk_182 0 27 (dk_at dksX0_init_1 18 rfl rfl)
theorem dX0_init_44 : decode cX0_init 44 = .ok (.putfield 31, 3) := dk_181 0 31 (dk_at dksX0_init_1 21 rfl rfl)
theorem dX0_init_47 : decode cX0_init 47 = .ok (.aload_n 0, 1) := dk_42 (dk_at dksX0_init_2 0 rfl rfl)
theorem dX0_init_48 : decode cX0_init 48 = .ok (.new 24, 3) := dk_187 0 24 (dk_at dksX0_init_2 1 rfl rfl)
theorem dX0_init_51 : decode cX0_init 51 = .ok (.dup, 1) := dk_89 (dk_at dksX0_init_2 4 rfl rfl)
theorem dX0_init_52 : decode cX0_init 52 = .ok (.invokespecial 26, 3) := dk_183 0 26 (dk_at dksX0_init_2 5 rfl rfl)
theorem dX0_init_55 : decode cX0_init 55 = .ok (.putfield 35, 3) := dk_181 0 35 (dk_at dksX0_init_2 8 rfl rfl)
theorem dX0_init_58 : decode cX0_init 58 = .ok (.aload_n 0, 1) := dk_42 (dk_at dksX0_init_2 11 rfl rfl)
theorem dX0_init_59 : decode cX0_init 59 = .ok (.new 24, 3) := dk_187 0 24 (dk_at dksX0_init_2 12 rfl rfl)
theorem dX0_init_62 : decode cX0_init 62 = .ok (.dup, 1) := dk_89 (dk_at dksX0_init_2 15 rfl rfl)
theorem dX0_init_63 : decode cX0_init 63 = .ok (.invokespecial 26, 3) := dk_183 0 26 (dk_at dksX0_init_2 16 rfl rfl)
theorem dX0_init_66 : decode cX0_init 66 = .ok (.putfield 38, 3) := dk_181 0 38 (dk_at dksX0_init_2 19 rfl rfl)
theorem dX0_init_69 : decode cX0_init 69 = .ok (.aload_n 0, 1) := dk_42 (dk_at dksX0_init_2 22 rfl rfl)
theorem dX0_init_70 : decode cX0_init 70 = .ok (.new 24, 3) := dk_187 0 24 (dk_at dksX0_init_3 0 rfl rfl)
theorem dX0_init_73 : decode cX0_init 73 = .ok (.dup, 1) := dk_89 (dk_at dksX0_init_3 3 rfl rfl)
theorem dX0_init_74 : decode cX0_init 74 = .ok (.invokespecial 26, 3) := dk_183 0 26 (dk_at dksX0_init_3 4 rfl rfl)
theorem dX0_init_77 : decode cX0_init 77 = .ok (.putfield 41, 3) := dk_181 0 41 (dk_at dksX0_init_3 7 rfl rfl)
theorem dX0_init_80 : decode cX0_init 80 = .ok (.aload_n 0, 1) := dk_42 (dk_at dksX0_init_3 10 rfl rfl)
theorem dX0_init_81 : decode cX0_init 81 = .ok (.bipush 40, 2) := dk_16 40 (dk_at dksX0_init_3 11 rfl rfl)
theorem dX0_init_83 : decode cX0_init 83 = .ok (.anewarray 24, 3) := dk_189 0 24 (dk_at dksX0_init_3 13 rfl rfl)
theorem dX0_init_86 : decode cX0_init 86 = .ok (.putfield 44, 3) := dk_181 0 44 (dk_at dksX0_init_3 16 rfl rfl)
theorem dX0_init_89 : decode cX0_init 89 = .ok (.aload_n 0, 1) := dk_42 (dk_at dksX0_init_3 19 rfl rfl)
theorem dX0_init_90 : decode cX0_init 90 = .ok (.iconst 3, 1) := dk_6 (dk_at dksX0_init_3 20 rfl rfl)
theorem dX0_init_91 : decode cX0_init 91 = .ok (.newarray .int, 2) := dk_188_10 (dk_at dksX0_init_3 21 rfl rfl)
theorem dX0_init_93 : decode cX0_init 93 = .ok (.putfield 48, 3) := dk_181 0 48 (dk_at dksX0_init_4 0 rfl rfl)
theorem dX0_init_96 : decode cX0_init 96 = .ok (.aload_n 0, 1) := dk_42 (dk_at dksX0_init_4 3 rfl rfl)
theorem dX0_init_97 : decode cX0_init 97 = .ok (.iconst 3, 1) := dk_6 (dk_at dksX0_init_4 4 rfl rfl)
theorem dX0_init_98 : decode cX0_init 98 = .ok (.newarray .int, 2) := dk_188_10 (dk_at dksX0_init_4 5 rfl rfl)
theorem dX0_init_100 : decode cX0_init 100 = .ok (.putfield 52, 3) := dk_181 0 52 (dk_at dksX0_init_4 7 rfl rfl)
theorem dX0_init_103 : decode cX0_init 103 = .ok (.aload_n 0, 1) := dk_42 (dk_at dksX0_init_4 10 rfl rfl)
theorem dX0_init_104 : decode cX0_init 104 = .ok (.bipush 6, 2) := dk_16 6 (dk_at dksX0_init_4 11 rfl rfl)
theorem dX0_init_106 : decode cX0_init 106 = .ok (.newarray .int, 2) := dk_188_10 (dk_at dksX0_init_4 13 rfl rfl)
theorem dX0_init_108 : decode cX0_init 108 = .ok (.putfield 55, 3) := dk_181 0 55 (dk_at dksX0_init_4 15 rfl rfl)
theorem dX0_init_111 : decode cX0_init 111 = .ok (.aload_n 0, 1) := dk_42 (dk_at dksX0_init_4 18 rfl rfl)
theorem dX0_init_112 : decode cX0_init 112 = .ok (.bipush 6, 2) := dk_16 6 (dk_at dksX0_init_4 19 rfl rfl)
theorem dX0_init_114 : decode cX0_init 114 = .ok (.newarray .int, 2) := dk_188_10 (dk_at dksX0_init_4 21 rfl rfl)
theorem dX0_init_116 : decode cX0_init 116 = .ok (.putfield 58, 3) := dk_181 0 58 (dk_at dksX0_init_5 0 rfl rfl)
theorem dX0_init_119 : decode cX0_init 119 = .ok (.aload_n 0, 1) := dk_42 (dk_at dksX0_init_5 3 rfl rfl)
theorem dX0_init_120 : decode cX0_init 120 = .ok (.bipush 6, 2) := dk_16 6 (dk_at dksX0_init_5 4 rfl rfl)
theorem dX0_init_122 : decode cX0_init 122 = .ok (.newarray .int, 2) := dk_188_10 (dk_at dksX0_init_5 6 rfl rfl)
theorem dX0_init_124 : decode cX0_init 124 = .ok (.putfield 61, 3) := dk_181 0 61 (dk_at dksX0_init_5 8 rfl rfl)
theorem dX0_init_127 : decode cX0_init 127 = .ok (.aload_n 0, 1) := dk_42 (dk_at dksX0_init_5 11 rfl rfl)
theorem dX0_init_128 : decode cX0_init 128 = .ok (.bipush 15, 2) := dk_16 15 (dk_at dksX0_init_5 12 rfl rfl)
theorem dX0_init_130 : decode cX0_init 130 = .ok (.newarray .int, 2) := dk_188_10 (dk_at dksX0_init_5 14 rfl rfl)
theorem dX0_init_132 : decode cX0_init 132 = .ok (.putfield 64, 3) := dk_181 0 64 (dk_at dksX0_init_5 16 rfl rfl)
theorem dX0_init_135 : decode cX0_init 135 = .ok (.aload_n 0, 1) := dk_42 (dk_at dksX0_init_5 19 rfl rfl)
theorem dX0_init_136 : decode cX0_init 136 = .ok (.new 67, 3) := dk_187 0 67 (dk_at dksX0_init_5 20 rfl rfl)
theorem dX0_init_139 : decode cX0_init 139 = .ok (.dup, 1) := dk_89 (dk_at dksX0_init_5 23 rfl rfl)
theorem dX0_init_140 : decode cX0_init 140 = .ok (.iconst 2, 1) := dk_5 (dk_at dksX0_init_6 0 rfl rfl)
theorem dX0_init_141 : decode cX0_init 141 = .ok (.invokespecial 69, 3) := dk_183 0 69 (dk_at dksX0_init_6 1 rfl rfl)
theorem dX0_init_144 : decode cX0_init 144 = .ok (.putfield 72, 3) := dk_181 0 72 (dk_at dksX0_init_6 4 rfl rfl)
theorem dX0_init_147 : decode cX0_init 147 = .ok (.aload_n 0, 1) := dk_42 (dk_at dksX0_init_6 7 rfl rfl)
theorem dX0_init_148 : decode cX0_init 148 = .ok (.iconst 5, 1) := dk_8 (dk_at dksX0_init_6 8 rfl rfl)
theorem dX0_init_149 : decode cX0_init 149 = .ok (.newarray .int, 2) := dk_188_10 (dk_at dksX0_init_6 9 rfl rfl)
theorem dX0_init_151 : decode cX0_init 151 = .ok (.putfield 76, 3) := dk_181 0 76 (dk_at dksX0_init_6 11 rfl rfl)
theorem dX0_init_154 : decode cX0_init 154 = .ok (.aload_n 0, 1) := dk_42 (dk_at dksX0_init_6 14 rfl rfl)
theorem dX0_init_155 : decode cX0_init 155 = .ok (.iconst 5, 1) := dk_8 (dk_at dksX0_init_6 15 rfl rfl)
theorem dX0_init_156 : decode cX0_init 156 = .ok (.iconst 5, 1) := dk_8 (dk_at dksX0_init_6 16 rfl rfl)
theorem dX0_init_157 : decode cX0_init 157 = .ok (.multianewarray 79 2, 4) := by decide +kernel
theorem dX0_init_161 : decode cX0_init 161 = .ok (.putfield 81, 3) := dk_181 0 81 (dk_at dksX0_init_6 21 rfl rfl)
theorem dX0_init_164 : decode cX0_init 164 = .ok (.aload_n 0, 1) := dk_42 (dk_at dksX0_init_7 0 rfl rfl)
theorem dX0_init_165 : decode cX0_init 165 = .ok (.iconst 3, 1) := dk_6 (dk_at dksX0_init_7 1 rfl rfl)
theorem dX0_init_166 : decode cX0_init 166 = .ok (.anewarray 24, 3) := dk_189 0 24 (dk_at dksX0_init_7 2 rfl rfl)
theorem dX0_init_169 : decode cX0_init 169 = .ok (.putfield 84, 3) := dk_181 0 84 (dk_at dksX0_init_7 5 rfl rfl)
theorem dX0_init_172 : decode cX0_init 172 = .ok (.aload_n 0, 1) := dk_42 (dk_at dksX0_init_7 8 rfl rfl)
theorem dX0_init_173 : decode cX0_init 173 = .ok (.iconst 3, 1) := dk_6 (dk_at dksX0_init_7 9 rfl rfl)
theorem dX0_init_174 : decode cX0_init 174 = .ok (.newarray .boolean, 2) := dk_188_4 (dk_at dksX0_init_7 10 rfl rfl)
theorem dX0_init_176 : decode cX0_init 176 = .ok (.putfield 87, 3) := dk_181 0 87 (dk_at dksX0_init_7 12 rfl rfl)
theorem dX0_init_179 : decode cX0_init 179 = .ok (.iconst 0, 1) := dk_3 (dk_at dksX0_init_7 15 rfl rfl)
theorem dX0_init_180 : decode cX0_init 180 = .ok (.istore_n 1, 1) := dk_60 (dk_at dksX0_init_7 16 rfl rfl)
theorem dX0_init_181 : decode cX0_init 181 = .ok (.iload_n 1, 1) := dk_27 (dk_at dksX0_init_7 17 rfl rfl)
theorem dX0_init_182 : decode cX0_init 182 = .ok (.bipush 40, 2) := dk_16 40 (dk_at dksX0_init_7 18 rfl rfl)
theorem dX0_init_184 : decode cX0_init 184 = .ok (.if_icmp .ge 22, 3) := dk_162 0 22 (dk_at dksX0_init_7 20 rfl rfl)
theorem dX0_init_187 : decode cX0_init 187 = .ok (.aload_n 0, 1) := dk_42 (dk_at dksX0_init_7 23 rfl rfl)
theorem dX0_init_188 : decode cX0_init 188 = .ok (.getfield 44, 3) := dk_180 0 44 (dk_at dksX0_init_8 0 rfl rfl)
theorem dX0_init_191 : decode cX0_init 191 = .ok (.iload_n 1, 1) := dk_27 (dk_at dksX0_init_8 3 rfl rfl)
theorem dX0_init_192 : decode cX0_init 192 = .ok (.new 24, 3) := dk_187 0 24 (dk_at dksX0_init_8 4 rfl rfl)
theorem dX0_init_195 : decode cX0_init 195 = .ok (.dup, 1) := dk_89 (dk_at dksX0_init_8 7 rfl rfl)
theorem dX0_init_196 : decode cX0_init 196 = .ok (.invokespecial 26, 3) := dk_183 0 26 (dk_at dksX0_init_8 8 rfl rfl)
theorem dX0_init_199 : decode cX0_init 199 = .ok (.aastore, 1) := dk_83 (dk_at dksX0_init_8 11 rfl rfl)
theorem dX0_init_200 : decode cX0_init 200 = .ok (.iinc 1 1, 3) := dk_132 1 1 (dk_at dksX0_init_8 12 rfl rfl)
theorem dX0_init_203 : decode cX0_init 203 = .ok (.goto (-22), 3) := dk_167 255 234 (dk_at dksX0_init_8 15 rfl rfl)
theorem dX0_init_206 : decode cX0_init 206 = .ok (.iconst 0, 1) := dk_3 (dk_at dksX0_init_8 18 rfl rfl)
theorem dX0_init_207 : decode cX0_init 207 = .ok (.istore_n 1, 1) := dk_60 (dk_at dksX0_init_8 19 rfl rfl)
theorem dX0_init_208 : decode cX0_init 208 = .ok (.iload_n 1, 1) := dk_27 (dk_at dksX0_init_8 20 rfl rfl)
theorem dX0_init_209 : decode cX0_init 209 = .ok (.iconst 3, 1) := dk_6 (dk_at dksX0_init_8 21 rfl rfl)
theorem dX0_init_210 : decode cX0_init 210 = .ok (.if_icmp .ge 22, 3) := dk_162 0 22 (dk_at dksX0_init_9 0 rfl rfl)
theorem dX0_init_213 : decode cX0_init 213 = .ok (.aload_n 0, 1) := dk_42 (dk_at dksX0_init_9 3 rfl rfl)
theorem dX0_init_214 : decode cX0_init 214 = .ok (.getfield 84, 3) := dk_180 0 84 (dk_at dksX0_init_9 4 rfl rfl)
theorem dX0_init_217 : decode cX0_init 217 = .ok (.iload_n 1, 1) := dk_27 (dk_at dksX0_init_9 7 rfl rfl)
theorem dX0_init_218 : decode cX0_init 218 = .ok (.new 24, 3) := dk_187 0 24 (dk_at dksX0_init_9 8 rfl rfl)
theorem dX0_init_221 : decode cX0_init 221 = .ok (.dup, 1) := dk_89 (dk_at dksX0_init_9 11 rfl rfl)
theorem dX0_init_222 : decode cX0_init 222 = .ok (.invokespecial 26, 3) := dk_183 0 26 (dk_at dksX0_init_9 12 rfl rfl)
theorem dX0_init_225 : decode cX0_init 225 = .ok (.aastore, 1) := dk_83 (dk_at dksX0_init_9 15 rfl rfl)
theorem dX0_init_226 : decode cX0_init 226 = .ok (.iinc 1 1, 3) := dk_132 1 1 (dk_at dksX0_init_9 16 rfl rfl)
theorem dX0_init_229 : decode cX0_init 229 = .ok (.goto (-21), 3) := dk_167 255 235 (dk_at dksX0_init_9 19 rfl rfl)
theorem dX0_init_232 : decode cX0_init 232 = .ok (.return_, 1) := dk_177 (dk_at dksX0_init_9 22 rfl rfl)
abbrev cX0_feed : ByteArray := prog_1_method_3_code
def yX0_feed : MethodName := ⟨RX0, "feed", "(IIIII)I"⟩
def dkwX0_feed_5 : List UInt8 := [172]
abbrev dktX0_feed_5 : List UInt8 := dkwX0_feed_5 ++ []
def dkwX0_feed_4 : List UInt8 := [180, 0, 91, 4, 96, 181, 0, 91, 132, 11, 248, 167, 255, 223, 132, 9, 1, 167, 255, 199, 42, 180, 0, 91]
abbrev dktX0_feed_4 : List UInt8 := dkwX0_feed_4 ++ dktX0_feed_5
def dkwX0_feed_3 : List UInt8 := [21, 11, 155, 0, 34, 42, 180, 0, 9, 42, 180, 0, 91, 21, 10, 21, 11, 122, 145, 84, 42, 89]
abbrev dktX0_feed_3 : List UInt8 := dkwX0_feed_3 ++ dktX0_feed_4
def dkwX0_feed_2 : List UInt8 := [190, 54, 8, 3, 54, 9, 21, 9, 21, 8, 162, 0, 56, 25, 7, 21, 9, 46, 54, 10, 16, 24, 54, 11]
abbrev dktX0_feed_2 : List UInt8 := dkwX0_feed_2 ++ dktX0_feed_3
def dkwX0_feed_1 : List UInt8 := [28, 79, 89, 5, 29, 79, 89, 6, 21, 4, 79, 89, 7, 21, 5, 79, 58, 6, 25, 6, 58, 7, 25, 7]
abbrev dktX0_feed_1 : List UInt8 := dkwX0_feed_1 ++ dktX0_feed_2
def dkwX0_feed_0 : List UInt8 := [42, 180, 0, 91, 16, 20, 96, 17, 6, 64, 164, 0, 5, 2, 172, 8, 188, 10, 89, 3, 27, 79, 89, 4]
abbrev dktX0_feed_0 : List UInt8 := dkwX0_feed_0 ++ dktX0_feed_1
theorem dksX0_feed_0 : cX0_feed.data.toList.drop 0 = dktX0_feed_0 := by decide +kernel
theorem dksX0_feed_1 : cX0_feed.data.toList.drop 24 = dktX0_feed_1 := dk_seg dksX0_feed_0 24 rfl rfl
theorem dksX0_feed_2 : cX0_feed.data.toList.drop 48 = dktX0_feed_2 := dk_seg dksX0_feed_1 24 rfl rfl
theorem dksX0_feed_3 : cX0_feed.data.toList.drop 72 = dktX0_feed_3 := dk_seg dksX0_feed_2 24 rfl rfl
theorem dksX0_feed_4 : cX0_feed.data.toList.drop 94 = dktX0_feed_4 := dk_seg dksX0_feed_3 22 rfl rfl
theorem dksX0_feed_5 : cX0_feed.data.toList.drop 118 = dktX0_feed_5 := dk_seg dksX0_feed_4 24 rfl rfl
theorem dX0_feed_0 : decode cX0_feed 0 = .ok (.aload_n 0, 1) := dk_42 (dk_at dksX0_feed_0 0 rfl rfl)
theorem dX0_feed_1 : decode cX0_feed 1 = .ok (.getfield 91, 3) := dk_180 0 91 (dk_at dksX0_feed_0 1 rfl rfl)
theorem dX0_feed_4 : decode cX0_feed 4 = .ok (.bipush 20, 2) := dk_16 20 (dk_at dksX0_feed_0 4 rfl rfl)
theorem dX0_feed_6 : decode cX0_feed 6 = .ok (.iadd, 1) := dk_96 (dk_at dksX0_feed_0 6 rfl rfl)
theorem dX0_feed_7 : decode cX0_feed 7 = .ok (.sipush 1600, 3) := dk_17 6 64 (dk_at dksX0_feed_0 7 rfl rfl)
theorem dX0_feed_10 : decode cX0_feed 10 = .ok (.if_icmp .le 5, 3) := dk_164 0 5 (dk_at dksX0_feed_0 10 rfl rfl)
theorem dX0_feed_13 : decode cX0_feed 13 = .ok (.iconst (-1), 1) := dk_2 (dk_at dksX0_feed_0 13 rfl rfl)
theorem dX0_feed_14 : decode cX0_feed 14 = .ok (.ireturn, 1) := dk_172 (dk_at dksX0_feed_0 14 rfl rfl)
theorem dX0_feed_15 : decode cX0_feed 15 = .ok (.iconst 5, 1) := dk_8 (dk_at dksX0_feed_0 15 rfl rfl)
theorem dX0_feed_16 : decode cX0_feed 16 = .ok (.newarray .int, 2) := dk_188_10 (dk_at dksX0_feed_0 16 rfl rfl)
theorem dX0_feed_18 : decode cX0_feed 18 = .ok (.dup, 1) := dk_89 (dk_at dksX0_feed_0 18 rfl rfl)
theorem dX0_feed_19 : decode cX0_feed 19 = .ok (.iconst 0, 1) := dk_3 (dk_at dksX0_feed_0 19 rfl rfl)
theorem dX0_feed_20 : decode cX0_feed 20 = .ok (.iload_n 1, 1) := dk_27 (dk_at dksX0_feed_0 20 rfl rfl)
theorem dX0_feed_21 : decode cX0_feed 21 = .ok (.iastore, 1) := dk_79 (dk_at dksX0_feed_0 21 rfl rfl)
theorem dX0_feed_22 : decode cX0_feed 22 = .ok (.dup, 1) := dk_89 (dk_at dksX0_feed_0 22 rfl rfl)
theorem dX0_feed_23 : decode cX0_feed 23 = .ok (.iconst 1, 1) := dk_4 (dk_at dksX0_feed_0 23 rfl rfl)
theorem dX0_feed_24 : decode cX0_feed 24 = .ok (.iload_n 2, 1) := dk_28 (dk_at dksX0_feed_1 0 rfl rfl)
theorem dX0_feed_25 : decode cX0_feed 25 = .ok (.iastore, 1) := dk_79 (dk_at dksX0_feed_1 1 rfl rfl)
theorem dX0_feed_26 : decode cX0_feed 26 = .ok (.dup, 1) := dk_89 (dk_at dksX0_feed_1 2 rfl rfl)
theorem dX0_feed_27 : decode cX0_feed 27 = .ok (.iconst 2, 1) := dk_5 (dk_at dksX0_feed_1 3 rfl rfl)
theorem dX0_feed_28 : decode cX0_feed 28 = .ok (.iload_n 3, 1) := dk_29 (dk_at dksX0_feed_1 4 rfl rfl)
theorem dX0_feed_29 : decode cX0_feed 29 = .ok (.iastore, 1) := dk_79 (dk_at dksX0_feed_1 5 rfl rfl)
theorem dX0_feed_30 : decode cX0_feed 30 = .ok (.dup, 1) := dk_89 (dk_at dksX0_feed_1 6 rfl rfl)
theorem dX0_feed_31 : decode cX0_feed 31 = .ok (.iconst 3, 1) := dk_6 (dk_at dksX0_feed_1 7 rfl rfl)
theorem dX0_feed_32 : decode cX0_feed 32 = .ok (.iload 4, 2) := dk_21 4 (dk_at dksX0_feed_1 8 rfl rfl)
theorem dX0_feed_34 : decode cX0_feed 34 = .ok (.iastore, 1) := dk_79 (dk_at dksX0_feed_1 10 rfl rfl)
theorem dX0_feed_35 : decode cX0_feed 35 = .ok (.dup, 1) := dk_89 (dk_at dksX0_feed_1 11 rfl rfl)
theorem dX0_feed_36 : decode cX0_feed 36 = .ok (.iconst 4, 1) := dk_7 (dk_at dksX0_feed_1 12 rfl rfl)
theorem dX0_feed_37 : decode cX0_feed 37 = .ok (.iload 5, 2) := dk_21 5 (dk_at dksX0_feed_1 13 rfl rfl)
theorem dX0_feed_39 : decode cX0_feed 39 = .ok (.iastore, 1) := dk_79 (dk_at dksX0_feed_1 15 rfl rfl)
theorem dX0_feed_40 : decode cX0_feed 40 = .ok (.astore 6, 2) := dk_58 6 (dk_at dksX0_feed_1 16 rfl rfl)
theorem dX0_feed_42 : decode cX0_feed 42 = .ok (.aload 6, 2) := dk_25 6 (dk_at dksX0_feed_1 18 rfl rfl)
theorem dX0_feed_44 : decode cX0_feed 44 = .ok (.astore 7, 2) := dk_58 7 (dk_at dksX0_feed_1 20 rfl rfl)
theorem dX0_feed_46 : decode cX0_feed 46 = .ok (.aload 7, 2) := dk_25 7 (dk_at dksX0_feed_1 22 rfl rfl)
theorem dX0_feed_48 : decode cX0_feed 48 = .ok (.arraylength, 1) := dk_190 (dk_at dksX0_feed_2 0 rfl rfl)
theorem dX0_feed_49 : decode cX0_feed 49 = .ok (.istore 8, 2) := dk_54 8 (dk_at dksX0_feed_2 1 rfl rfl)
theorem dX0_feed_51 : decode cX0_feed 51 = .ok (.iconst 0, 1) := dk_3 (dk_at dksX0_feed_2 3 rfl rfl)
theorem dX0_feed_52 : decode cX0_feed 52 = .ok (.istore 9, 2) := dk_54 9 (dk_at dksX0_feed_2 4 rfl rfl)
theorem dX0_feed_54 : decode cX0_feed 54 = .ok (.iload 9, 2) := dk_21 9 (dk_at dksX0_feed_2 6 rfl rfl)
theorem dX0_feed_56 : decode cX0_feed 56 = .ok (.iload 8, 2) := dk_21 8 (dk_at dksX0_feed_2 8 rfl rfl)
theorem dX0_feed_58 : decode cX0_feed 58 = .ok (.if_icmp .ge 56, 3) := dk_162 0 56 (dk_at dksX0_feed_2 10 rfl rfl)
theorem dX0_feed_61 : decode cX0_feed 61 = .ok (.aload 7, 2) := dk_25 7 (dk_at dksX0_feed_2 13 rfl rfl)
theorem dX0_feed_63 : decode cX0_feed 63 = .ok (.iload 9, 2) := dk_21 9 (dk_at dksX0_feed_2 15 rfl rfl)
theorem dX0_feed_65 : decode cX0_feed 65 = .ok (.iaload, 1) := dk_46 (dk_at dksX0_feed_2 17 rfl rfl)
theorem dX0_feed_66 : decode cX0_feed 66 = .ok (.istore 10, 2) := dk_54 10 (dk_at dksX0_feed_2 18 rfl rfl)
theorem dX0_feed_68 : decode cX0_feed 68 = .ok (.bipush 24, 2) := dk_16 24 (dk_at dksX0_feed_2 20 rfl rfl)
theorem dX0_feed_70 : decode cX0_feed 70 = .ok (.istore 11, 2) := dk_54 11 (dk_at dksX0_feed_2 22 rfl rfl)
theorem dX0_feed_72 : decode cX0_feed 72 = .ok (.iload 11, 2) := dk_21 11 (dk_at dksX0_feed_3 0 rfl rfl)
theorem dX0_feed_74 : decode cX0_feed 74 = .ok (.ifCond .lt 34, 3) := dk_155 0 34 (dk_at dksX0_feed_3 2 rfl rfl)
theorem dX0_feed_77 : decode cX0_feed 77 = .ok (.aload_n 0, 1) := dk_42 (dk_at dksX0_feed_3 5 rfl rfl)
theorem dX0_feed_78 : decode cX0_feed 78 = .ok (.getfield 9, 3) := dk_180 0 9 (dk_at dksX0_feed_3 6 rfl rfl)
theorem dX0_feed_81 : decode cX0_feed 81 = .ok (.aload_n 0, 1) := dk_42 (dk_at dksX0_feed_3 9 rfl rfl)
theorem dX0_feed_82 : decode cX0_feed 82 = .ok (.getfield 91, 3) := dk_180 0 91 (dk_at dksX0_feed_3 10 rfl rfl)
theorem dX0_feed_85 : decode cX0_feed 85 = .ok (.iload 10, 2) := dk_21 10 (dk_at dksX0_feed_3 13 rfl rfl)
theorem dX0_feed_87 : decode cX0_feed 87 = .ok (.iload 11, 2) := dk_21 11 (dk_at dksX0_feed_3 15 rfl rfl)
theorem dX0_feed_89 : decode cX0_feed 89 = .ok (.ishr, 1) := dk_122 (dk_at dksX0_feed_3 17 rfl rfl)
theorem dX0_feed_90 : decode cX0_feed 90 = .ok (.i2b, 1) := dk_145 (dk_at dksX0_feed_3 18 rfl rfl)
theorem dX0_feed_91 : decode cX0_feed 91 = .ok (.bastore, 1) := dk_84 (dk_at dksX0_feed_3 19 rfl rfl)
theorem dX0_feed_92 : decode cX0_feed 92 = .ok (.aload_n 0, 1) := dk_42 (dk_at dksX0_feed_3 20 rfl rfl)
theorem dX0_feed_93 : decode cX0_feed 93 = .ok (.dup, 1) := dk_89 (dk_at dksX0_feed_3 21 rfl rfl)
theorem dX0_feed_94 : decode cX0_feed 94 = .ok (.getfield 91, 3) := dk_180 0 91 (dk_at dksX0_feed_4 0 rfl rfl)
theorem dX0_feed_97 : decode cX0_feed 97 = .ok (.iconst 1, 1) := dk_4 (dk_at dksX0_feed_4 3 rfl rfl)
theorem dX0_feed_98 : decode cX0_feed 98 = .ok (.iadd, 1) := dk_96 (dk_at dksX0_feed_4 4 rfl rfl)
theorem dX0_feed_99 : decode cX0_feed 99 = .ok (.putfield 91, 3) := dk_181 0 91 (dk_at dksX0_feed_4 5 rfl rfl)
theorem dX0_feed_102 : decode cX0_feed 102 = .ok (.iinc 11 (-8), 3) := dk_132 11 248 (dk_at dksX0_feed_4 8 rfl rfl)
theorem dX0_feed_105 : decode cX0_feed 105 = .ok (.goto (-33), 3) := dk_167 255 223 (dk_at dksX0_feed_4 11 rfl rfl)
theorem dX0_feed_108 : decode cX0_feed 108 = .ok (.iinc 9 1, 3) := dk_132 9 1 (dk_at dksX0_feed_4 14 rfl rfl)
theorem dX0_feed_111 : decode cX0_feed 111 = .ok (.goto (-57), 3) := dk_167 255 199 (dk_at dksX0_feed_4 17 rfl rfl)
theorem dX0_feed_114 : decode cX0_feed 114 = .ok (.aload_n 0, 1) := dk_42 (dk_at dksX0_feed_4 20 rfl rfl)
theorem dX0_feed_115 : decode cX0_feed 115 = .ok (.getfield 91, 3) := dk_180 0 91 (dk_at dksX0_feed_4 21 rfl rfl)
theorem dX0_feed_118 : decode cX0_feed 118 = .ok (.ireturn, 1) := dk_172 (dk_at dksX0_feed_5 0 rfl rfl)
abbrev cX0_end : ByteArray := prog_1_method_4_code
def yX0_end : MethodName := ⟨RX0, "end", "(I)I"⟩
def dkwX0_end_0 : List UInt8 := [27, 155, 0, 11, 27, 42, 180, 0, 91, 164, 0, 5, 2, 172, 42, 27, 181, 0, 91, 27, 172]
abbrev dktX0_end_0 : List UInt8 := dkwX0_end_0 ++ []
theorem dksX0_end_0 : cX0_end.data.toList.drop 0 = dktX0_end_0 := by decide +kernel
theorem dX0_end_0 : decode cX0_end 0 = .ok (.iload_n 1, 1) := dk_27 (dk_at dksX0_end_0 0 rfl rfl)
theorem dX0_end_1 : decode cX0_end 1 = .ok (.ifCond .lt 11, 3) := dk_155 0 11 (dk_at dksX0_end_0 1 rfl rfl)
theorem dX0_end_4 : decode cX0_end 4 = .ok (.iload_n 1, 1) := dk_27 (dk_at dksX0_end_0 4 rfl rfl)
theorem dX0_end_5 : decode cX0_end 5 = .ok (.aload_n 0, 1) := dk_42 (dk_at dksX0_end_0 5 rfl rfl)
theorem dX0_end_6 : decode cX0_end 6 = .ok (.getfield 91, 3) := dk_180 0 91 (dk_at dksX0_end_0 6 rfl rfl)
theorem dX0_end_9 : decode cX0_end 9 = .ok (.if_icmp .le 5, 3) := dk_164 0 5 (dk_at dksX0_end_0 9 rfl rfl)
theorem dX0_end_12 : decode cX0_end 12 = .ok (.iconst (-1), 1) := dk_2 (dk_at dksX0_end_0 12 rfl rfl)
theorem dX0_end_13 : decode cX0_end 13 = .ok (.ireturn, 1) := dk_172 (dk_at dksX0_end_0 13 rfl rfl)
theorem dX0_end_14 : decode cX0_end 14 = .ok (.aload_n 0, 1) := dk_42 (dk_at dksX0_end_0 14 rfl rfl)
theorem dX0_end_15 : decode cX0_end 15 = .ok (.iload_n 1, 1) := dk_27 (dk_at dksX0_end_0 15 rfl rfl)
theorem dX0_end_16 : decode cX0_end 16 = .ok (.putfield 91, 3) := dk_181 0 91 (dk_at dksX0_end_0 16 rfl rfl)
theorem dX0_end_19 : decode cX0_end 19 = .ok (.iload_n 1, 1) := dk_27 (dk_at dksX0_end_0 19 rfl rfl)
theorem dX0_end_20 : decode cX0_end 20 = .ok (.ireturn, 1) := dk_172 (dk_at dksX0_end_0 20 rfl rfl)
abbrev cX0_mill : ByteArray := prog_1_method_5_code
def yX0_mill : MethodName := ⟨RX0, "mill", "()I"⟩
def dkwX0_mill_5 : List UInt8 := [43, 199, 0, 10, 42, 182, 0, 126, 167, 0, 4, 2, 172]
abbrev dktX0_mill_5 : List UInt8 := dkwX0_mill_5 ++ []
def dkwX0_mill_4 : List UInt8 := [181, 0, 120, 42, 43, 199, 0, 7, 2, 167, 0, 7, 43, 180, 0, 123, 181, 0, 13, 42, 3, 181, 0, 91]
abbrev dktX0_mill_4 : List UInt8 := dkwX0_mill_4 ++ dktX0_mill_5
def dkwX0_mill_3 : List UInt8 := [167, 255, 241, 167, 0, 6, 77, 44, 76, 42, 43, 199, 0, 7, 3, 167, 0, 7, 43, 180, 0, 117]
abbrev dktX0_mill_3 : List UInt8 := dkwX0_mill_3 ++ dktX0_mill_4
def dkwX0_mill_2 : List UInt8 := [180, 0, 72, 182, 0, 112, 3, 61, 28, 6, 162, 0, 16, 42, 180, 0, 87, 28, 3, 84, 132, 2, 1]
abbrev dktX0_mill_2 : List UInt8 := dkwX0_mill_2 ++ dktX0_mill_3
def dkwX0_mill_1 : List UInt8 := [180, 0, 20, 182, 0, 27, 87, 42, 3, 181, 0, 103, 42, 3, 181, 0, 106, 42, 3, 181, 0, 109, 42]
abbrev dktX0_mill_1 : List UInt8 := dkwX0_mill_1 ++ dktX0_mill_2
def dkwX0_mill_0 : List UInt8 := [1, 76, 42, 187, 0, 94, 89, 42, 183, 0, 96, 182, 0, 99, 181, 0, 20, 42, 180, 0, 31, 42]
abbrev dktX0_mill_0 : List UInt8 := dkwX0_mill_0 ++ dktX0_mill_1
theorem dksX0_mill_0 : cX0_mill.data.toList.drop 0 = dktX0_mill_0 := by decide +kernel
theorem dksX0_mill_1 : cX0_mill.data.toList.drop 22 = dktX0_mill_1 := dk_seg dksX0_mill_0 22 rfl rfl
theorem dksX0_mill_2 : cX0_mill.data.toList.drop 45 = dktX0_mill_2 := dk_seg dksX0_mill_1 23 rfl rfl
theorem dksX0_mill_3 : cX0_mill.data.toList.drop 68 = dktX0_mill_3 := dk_seg dksX0_mill_2 23 rfl rfl
theorem dksX0_mill_4 : cX0_mill.data.toList.drop 90 = dktX0_mill_4 := dk_seg dksX0_mill_3 22 rfl rfl
theorem dksX0_mill_5 : cX0_mill.data.toList.drop 114 = dktX0_mill_5 := dk_seg dksX0_mill_4 24 rfl rfl
theorem dX0_mill_0 : decode cX0_mill 0 = .ok (.aconst_null, 1) := dk_1 (dk_at dksX0_mill_0 0 rfl rfl)
theorem dX0_mill_1 : decode cX0_mill 1 = .ok (.astore_n 1, 1) := dk_76 (dk_at dksX0_mill_0 1 rfl rfl)
theorem dX0_mill_2 : decode cX0_mill 2 = .ok (.aload_n 0, 1) := dk_42 (dk_at dksX0_mill_0 2 rfl rfl)
theorem dX0_mill_3 : decode cX0_mill 3 = .ok (.new 94, 3) := dk_187 0 94 (dk_at dksX0_mill_0 3 rfl rfl)
theorem dX0_mill_6 : decode cX0_mill 6 = .ok (.dup, 1) := dk_89 (dk_at dksX0_mill_0 6 rfl rfl)
theorem dX0_mill_7 : decode cX0_mill 7 = .ok (.aload_n 0, 1) := dk_42 (dk_at dksX0_mill_0 7 rfl rfl)
theorem dX0_mill_8 : decode cX0_mill 8 = .ok (.invokespecial 96, 3) := dk_183 0 96 (dk_at dksX0_mill_0 8 rfl rfl)
theorem dX0_mill_11 : decode cX0_mill 11 = .ok (.invokevirtual 99, 3) := dk_182 0 99 (dk_at dksX0_mill_0 11 rfl rfl)
theorem dX0_mill_14 : decode cX0_mill 14 = .ok (.putfield 20, 3) := dk_181 0 20 (dk_at dksX0_mill_0 14 rfl rfl)
theorem dX0_mill_17 : decode cX0_mill 17 = .ok (.aload_n 0, 1) := dk_42 (dk_at dksX0_mill_0 17 rfl rfl)
theorem dX0_mill_18 : decode cX0_mill 18 = .ok (.getfield 31, 3) := dk_180 0 31 (dk_at dksX0_mill_0 18 rfl rfl)
theorem dX0_mill_21 : decode cX0_mill 21 = .ok (.aload_n 0, 1) := dk_42 (dk_at dksX0_mill_0 21 rfl rfl)
theorem dX0_mill_22 : decode cX0_mill 22 = .ok (.getfield 20, 3) := dk_180 0 20 (dk_at dksX0_mill_1 0 rfl rfl)
theorem dX0_mill_25 : decode cX0_mill 25 = .ok (.invokevirtual 27, 3) := dk_182 0 27 (dk_at dksX0_mill_1 3 rfl rfl)
theorem dX0_mill_28 : decode cX0_mill 28 = .ok (.pop, 1) := dk_87 (dk_at dksX0_mill_1 6 rfl rfl)
theorem dX0_mill_29 : decode cX0_mill 29 = .ok (.aload_n 0, 1) := dk_42 (dk_at dksX0_mill_1 7 rfl rfl)
theorem dX0_mill_30 : decode cX0_mill 30 = .ok (.iconst 0, 1) := dk_3 (dk_at dksX0_mill_1 8 rfl rfl)
theorem dX0_mill_31 : decode cX0_mill 31 = .ok (.putfield 103, 3) := dk_181 0 103 (dk_at dksX0_mill_1 9 rfl rfl)
theorem dX0_mill_34 : decode cX0_mill 34 = .ok (.aload_n 0, 1) := dk_42 (dk_at dksX0_mill_1 12 rfl rfl)
theorem dX0_mill_35 : decode cX0_mill 35 = .ok (.iconst 0, 1) := dk_3 (dk_at dksX0_mill_1 13 rfl rfl)
theorem dX0_mill_36 : decode cX0_mill 36 = .ok (.putfield 106, 3) := dk_181 0 106 (dk_at dksX0_mill_1 14 rfl rfl)
theorem dX0_mill_39 : decode cX0_mill 39 = .ok (.aload_n 0, 1) := dk_42 (dk_at dksX0_mill_1 17 rfl rfl)
theorem dX0_mill_40 : decode cX0_mill 40 = .ok (.iconst 0, 1) := dk_3 (dk_at dksX0_mill_1 18 rfl rfl)
theorem dX0_mill_41 : decode cX0_mill 41 = .ok (.putfield 109, 3) := dk_181 0 109 (dk_at dksX0_mill_1 19 rfl rfl)
theorem dX0_mill_44 : decode cX0_mill 44 = .ok (.aload_n 0, 1) := dk_42 (dk_at dksX0_mill_1 22 rfl rfl)
theorem dX0_mill_45 : decode cX0_mill 45 = .ok (.getfield 72, 3) := dk_180 0 72 (dk_at dksX0_mill_2 0 rfl rfl)
theorem dX0_mill_48 : decode cX0_mill 48 = .ok (.invokevirtual 112, 3) := dk_182 0 112 (dk_at dksX0_mill_2 3 rfl rfl)
theorem dX0_mill_51 : decode cX0_mill 51 = .ok (.iconst 0, 1) := dk_3 (dk_at dksX0_mill_2 6 rfl rfl)
theorem dX0_mill_52 : decode cX0_mill 52 = .ok (.istore_n 2, 1) := dk_61 (dk_at dksX0_mill_2 7 rfl rfl)
theorem dX0_mill_53 : decode cX0_mill 53 = .ok (.iload_n 2, 1) := dk_28 (dk_at dksX0_mill_2 8 rfl rfl)
theorem dX0_mill_54 : decode cX0_mill 54 = .ok (.iconst 3, 1) := dk_6 (dk_at dksX0_mill_2 9 rfl rfl)
theorem dX0_mill_55 : decode cX0_mill 55 = .ok (.if_icmp .ge 16, 3) := dk_162 0 16 (dk_at dksX0_mill_2 10 rfl rfl)
theorem dX0_mill_58 : decode cX0_mill 58 = .ok (.aload_n 0, 1) := dk_42 (dk_at dksX0_mill_2 13 rfl rfl)
theorem dX0_mill_59 : decode cX0_mill 59 = .ok (.getfield 87, 3) := dk_180 0 87 (dk_at dksX0_mill_2 14 rfl rfl)
theorem dX0_mill_62 : decode cX0_mill 62 = .ok (.iload_n 2, 1) := dk_28 (dk_at dksX0_mill_2 17 rfl rfl)
theorem dX0_mill_63 : decode cX0_mill 63 = .ok (.iconst 0, 1) := dk_3 (dk_at dksX0_mill_2 18 rfl rfl)
theorem dX0_mill_64 : decode cX0_mill 64 = .ok (.bastore, 1) := dk_84 (dk_at dksX0_mill_2 19 rfl rfl)
theorem dX0_mill_65 : decode cX0_mill 65 = .ok (.iinc 2 1, 3) := dk_132 2 1 (dk_at dksX0_mill_2 20 rfl rfl)
theorem dX0_mill_68 : decode cX0_mill 68 = .ok (.goto (-15), 3) := dk_167 255 241 (dk_at dksX0_mill_3 0 rfl rfl)
theorem dX0_mill_71 : decode cX0_mill 71 = .ok (.goto 6, 3) := dk_167 0 6 (dk_at dksX0_mill_3 3 rfl rfl)
theorem dX0_mill_74 : decode cX0_mill 74 = .ok (.astore_n 2, 1) := dk_77 (dk_at dksX0_mill_3 6 rfl rfl)
theorem dX0_mill_75 : decode cX0_mill 75 = .ok (.aload_n 2, 1) := dk_44 (dk_at dksX0_mill_3 7 rfl rfl)
theorem dX0_mill_76 : decode cX0_mill 76 = .ok (.astore_n 1, 1) := dk_76 (dk_at dksX0_mill_3 8 rfl rfl)
theorem dX0_mill_77 : decode cX0_mill 77 = .ok (.aload_n 0, 1) := dk_42 (dk_at dksX0_mill_3 9 rfl rfl)
theorem dX0_mill_78 : decode cX0_mill 78 = .ok (.aload_n 1, 1) := dk_43 (dk_at dksX0_mill_3 10 rfl rfl)
theorem dX0_mill_79 : decode cX0_mill 79 = .ok (.ifnonnull 7, 3) := dk_199 0 7 (dk_at dksX0_mill_3 11 rfl rfl)
theorem dX0_mill_82 : decode cX0_mill 82 = .ok (.iconst 0, 1) := dk_3 (dk_at dksX0_mill_3 14 rfl rfl)
theorem dX0_mill_83 : decode cX0_mill 83 = .ok (.goto 7, 3) := dk_167 0 7 (dk_at dksX0_mill_3 15 rfl rfl)
theorem dX0_mill_86 : decode cX0_mill 86 = .ok (.aload_n 1, 1) := dk_43 (dk_at dksX0_mill_3 18 rfl rfl)
theorem dX0_mill_87 : decode cX0_mill 87 = .ok (.getfield 117, 3) := dk_180 0 117 (dk_at dksX0_mill_3 19 rfl rfl)
theorem dX0_mill_90 : decode cX0_mill 90 = .ok (.putfield 120, 3) := dk_181 0 120 (dk_at dksX0_mill_4 0 rfl rfl)
theorem dX0_mill_93 : decode cX0_mill 93 = .ok (.aload_n 0, 1) := dk_42 (dk_at dksX0_mill_4 3 rfl rfl)
theorem dX0_mill_94 : decode cX0_mill 94 = .ok (.aload_n 1, 1) := dk_43 (dk_at dksX0_mill_4 4 rfl rfl)
theorem dX0_mill_95 : decode cX0_mill 95 = .ok (.ifnonnull 7, 3) := dk_199 0 7 (dk_at dksX0_mill_4 5 rfl rfl)
theorem dX0_mill_98 : decode cX0_mill 98 = .ok (.iconst (-1), 1) := dk_2 (dk_at dksX0_mill_4 8 rfl rfl)
theorem dX0_mill_99 : decode cX0_mill 99 = .ok (.goto 7, 3) := dk_167 0 7 (dk_at dksX0_mill_4 9 rfl rfl)
theorem dX0_mill_102 : decode cX0_mill 102 = .ok (.aload_n 1, 1) := dk_43 (dk_at dksX0_mill_4 12 rfl rfl)
theorem dX0_mill_103 : decode cX0_mill 103 = .ok (.getfield 123, 3) := dk_180 0 123 (dk_at dksX0_mill_4 13 rfl rfl)
theorem dX0_mill_106 : decode cX0_mill 106 = .ok (.putfield 13, 3) := dk_181 0 13 (dk_at dksX0_mill_4 16 rfl rfl)
theorem dX0_mill_109 : decode cX0_mill 109 = .ok (.aload_n 0, 1) := dk_42 (dk_at dksX0_mill_4 19 rfl rfl)
theorem dX0_mill_110 : decode cX0_mill 110 = .ok (.iconst 0, 1) := dk_3 (dk_at dksX0_mill_4 20 rfl rfl)
theorem dX0_mill_111 : decode cX0_mill 111 = .ok (.putfield 91, 3) := dk_181 0 91 (dk_at dksX0_mill_4 21 rfl rfl)
theorem dX0_mill_114 : decode cX0_mill 114 = .ok (.aload_n 1, 1) := dk_43 (dk_at dksX0_mill_5 0 rfl rfl)
theorem dX0_mill_115 : decode cX0_mill 115 = .ok (.ifnonnull 10, 3) := dk_199 0 10 (dk_at dksX0_mill_5 1 rfl rfl)
theorem dX0_mill_118 : decode cX0_mill 118 = .ok (.aload_n 0, 1) := dk_42 (dk_at dksX0_mill_5 4 rfl rfl)
theorem dX0_mill_119 : decode cX0_mill 119 = .ok (.invokevirtual 126, 3) := dk_182 0 126 (dk_at dksX0_mill_5 5 rfl rfl)
theorem dX0_mill_122 : decode cX0_mill 122 = .ok (.goto 4, 3) := dk_167 0 4 (dk_at dksX0_mill_5 8 rfl rfl)
theorem dX0_mill_125 : decode cX0_mill 125 = .ok (.iconst (-1), 1) := dk_2 (dk_at dksX0_mill_5 11 rfl rfl)
theorem dX0_mill_126 : decode cX0_mill 126 = .ok (.ireturn, 1) := dk_172 (dk_at dksX0_mill_5 12 rfl rfl)
abbrev cX0_men : ByteArray := prog_1_method_7_code
def yX0_men : MethodName := ⟨RX0, "men", "()I"⟩
def dkwX0_men_0 : List UInt8 := [42, 180, 0, 20, 180, 0, 130, 182, 0, 132, 172]
abbrev dktX0_men_0 : List UInt8 := dkwX0_men_0 ++ []
theorem dksX0_men_0 : cX0_men.data.toList.drop 0 = dktX0_men_0 := by decide +kernel
theorem dX0_men_0 : decode cX0_men 0 = .ok (.aload_n 0, 1) := dk_42 (dk_at dksX0_men_0 0 rfl rfl)
theorem dX0_men_1 : decode cX0_men 1 = .ok (.getfield 20, 3) := dk_180 0 20 (dk_at dksX0_men_0 1 rfl rfl)
theorem dX0_men_4 : decode cX0_men 4 = .ok (.getfield 130, 3) := dk_180 0 130 (dk_at dksX0_men_0 4 rfl rfl)
theorem dX0_men_7 : decode cX0_men 7 = .ok (.invokevirtual 132, 3) := dk_182 0 132 (dk_at dksX0_men_0 7 rfl rfl)
theorem dX0_men_10 : decode cX0_men 10 = .ok (.ireturn, 1) := dk_172 (dk_at dksX0_men_0 10 rfl rfl)
abbrev cX0_fault : ByteArray := prog_1_method_6_code
def yX0_fault : MethodName := ⟨RX0, "fault", "(I)I"⟩
def dkwX0_fault_1 : List UInt8 := [172]
abbrev dktX0_fault_1 : List UInt8 := dkwX0_fault_1 ++ []
def dkwX0_fault_0 : List UInt8 := [27, 154, 0, 10, 42, 180, 0, 120, 167, 0, 16, 27, 4, 160, 0, 10, 42, 180, 0, 13, 167, 0, 4, 2]
abbrev dktX0_fault_0 : List UInt8 := dkwX0_fault_0 ++ dktX0_fault_1
theorem dksX0_fault_0 : cX0_fault.data.toList.drop 0 = dktX0_fault_0 := by decide +kernel
theorem dksX0_fault_1 : cX0_fault.data.toList.drop 24 = dktX0_fault_1 := dk_seg dksX0_fault_0 24 rfl rfl
theorem dX0_fault_0 : decode cX0_fault 0 = .ok (.iload_n 1, 1) := dk_27 (dk_at dksX0_fault_0 0 rfl rfl)
theorem dX0_fault_1 : decode cX0_fault 1 = .ok (.ifCond .ne 10, 3) := dk_154 0 10 (dk_at dksX0_fault_0 1 rfl rfl)
theorem dX0_fault_4 : decode cX0_fault 4 = .ok (.aload_n 0, 1) := dk_42 (dk_at dksX0_fault_0 4 rfl rfl)
theorem dX0_fault_5 : decode cX0_fault 5 = .ok (.getfield 120, 3) := dk_180 0 120 (dk_at dksX0_fault_0 5 rfl rfl)
theorem dX0_fault_8 : decode cX0_fault 8 = .ok (.goto 16, 3) := dk_167 0 16 (dk_at dksX0_fault_0 8 rfl rfl)
theorem dX0_fault_11 : decode cX0_fault 11 = .ok (.iload_n 1, 1) := dk_27 (dk_at dksX0_fault_0 11 rfl rfl)
theorem dX0_fault_12 : decode cX0_fault 12 = .ok (.iconst 1, 1) := dk_4 (dk_at dksX0_fault_0 12 rfl rfl)
theorem dX0_fault_13 : decode cX0_fault 13 = .ok (.if_icmp .ne 10, 3) := dk_160 0 10 (dk_at dksX0_fault_0 13 rfl rfl)
theorem dX0_fault_16 : decode cX0_fault 16 = .ok (.aload_n 0, 1) := dk_42 (dk_at dksX0_fault_0 16 rfl rfl)
theorem dX0_fault_17 : decode cX0_fault 17 = .ok (.getfield 13, 3) := dk_180 0 13 (dk_at dksX0_fault_0 17 rfl rfl)
theorem dX0_fault_20 : decode cX0_fault 20 = .ok (.goto 4, 3) := dk_167 0 4 (dk_at dksX0_fault_0 20 rfl rfl)
theorem dX0_fault_23 : decode cX0_fault 23 = .ok (.iconst (-1), 1) := dk_2 (dk_at dksX0_fault_0 23 rfl rfl)
theorem dX0_fault_24 : decode cX0_fault 24 = .ok (.ireturn, 1) := dk_172 (dk_at dksX0_fault_1 0 rfl rfl)
abbrev cX0_man : ByteArray := prog_1_method_12_code
def yX0_man : MethodName := ⟨RX0, "man", "(II)I"⟩
def dkwX0_man_5 : List UInt8 := [180, 0, 172, 172, 45, 180, 0, 175, 153, 0, 7, 4, 167, 0, 4, 3, 172, 18, 148, 172]
abbrev dktX0_man_5 : List UInt8 := dkwX0_man_5 ++ []
def dkwX0_man_4 : List UInt8 := [42, 180, 0, 20, 27, 182, 0, 161, 172, 42, 180, 0, 31, 27, 182, 0, 165, 172, 45, 182, 0, 169, 172, 45]
abbrev dktX0_man_4 : List UInt8 := dkwX0_man_4 ++ dktX0_man_5
def dkwX0_man_3 : List UInt8 := [42, 180, 0, 31, 180, 0, 155, 27, 46, 172, 42, 180, 0, 31, 180, 0, 158, 27, 46, 172, 42, 180, 0, 31]
abbrev dktX0_man_3 : List UInt8 := dkwX0_man_3 ++ dktX0_man_4
def dkwX0_man_2 : List UInt8 := [170, 0, 0, 0, 106, 0, 0, 0, 0, 0, 0, 0, 6, 0, 0, 0, 41, 0, 0, 0, 51, 0, 0, 0, 61, 0, 0, 0, 74, 0, 0, 0, 83, 0, 0, 0, 88, 0, 0, 0, 93]
abbrev dktX0_man_2 : List UInt8 := dkwX0_man_2 ++ dktX0_man_3
def dkwX0_man_1 : List UInt8 := [192, 0, 153, 78, 28]
abbrev dktX0_man_1 : List UInt8 := dkwX0_man_1 ++ dktX0_man_2
def dkwX0_man_0 : List UInt8 := [42, 27, 182, 0, 144, 154, 0, 6, 18, 148, 172, 42, 180, 0, 20, 180, 0, 130, 27, 182, 0, 149]
abbrev dktX0_man_0 : List UInt8 := dkwX0_man_0 ++ dktX0_man_1
theorem dksX0_man_0 : cX0_man.data.toList.drop 0 = dktX0_man_0 := by decide +kernel
theorem dksX0_man_1 : cX0_man.data.toList.drop 22 = dktX0_man_1 := dk_seg dksX0_man_0 22 rfl rfl
theorem dksX0_man_2 : cX0_man.data.toList.drop 27 = dktX0_man_2 := dk_seg dksX0_man_1 5 rfl rfl
theorem dksX0_man_3 : cX0_man.data.toList.drop 68 = dktX0_man_3 := dk_seg dksX0_man_2 41 rfl rfl
theorem dksX0_man_4 : cX0_man.data.toList.drop 92 = dktX0_man_4 := dk_seg dksX0_man_3 24 rfl rfl
theorem dksX0_man_5 : cX0_man.data.toList.drop 116 = dktX0_man_5 := dk_seg dksX0_man_4 24 rfl rfl
theorem dX0_man_0 : decode cX0_man 0 = .ok (.aload_n 0, 1) := dk_42 (dk_at dksX0_man_0 0 rfl rfl)
theorem dX0_man_1 : decode cX0_man 1 = .ok (.iload_n 1, 1) := dk_27 (dk_at dksX0_man_0 1 rfl rfl)
theorem dX0_man_2 : decode cX0_man 2 = .ok (.invokevirtual 144, 3) := dk_182 0 144 (dk_at dksX0_man_0 2 rfl rfl)
theorem dX0_man_5 : decode cX0_man 5 = .ok (.ifCond .ne 6, 3) := dk_154 0 6 (dk_at dksX0_man_0 5 rfl rfl)
theorem dX0_man_8 : decode cX0_man 8 = .ok (.ldc 148, 2) := dk_18 148 (dk_at dksX0_man_0 8 rfl rfl)
theorem dX0_man_10 : decode cX0_man 10 = .ok (.ireturn, 1) := dk_172 (dk_at dksX0_man_0 10 rfl rfl)
theorem dX0_man_11 : decode cX0_man 11 = .ok (.aload_n 0, 1) := dk_42 (dk_at dksX0_man_0 11 rfl rfl)
theorem dX0_man_12 : decode cX0_man 12 = .ok (.getfield 20, 3) := dk_180 0 20 (dk_at dksX0_man_0 12 rfl rfl)
theorem dX0_man_15 : decode cX0_man 15 = .ok (.getfield 130, 3) := dk_180 0 130 (dk_at dksX0_man_0 15 rfl rfl)
theorem dX0_man_18 : decode cX0_man 18 = .ok (.iload_n 1, 1) := dk_27 (dk_at dksX0_man_0 18 rfl rfl)
theorem dX0_man_19 : decode cX0_man 19 = .ok (.invokevirtual 149, 3) := dk_182 0 149 (dk_at dksX0_man_0 19 rfl rfl)
theorem dX0_man_22 : decode cX0_man 22 = .ok (.checkcast 153, 3) := dk_192 0 153 (dk_at dksX0_man_1 0 rfl rfl)
theorem dX0_man_25 : decode cX0_man 25 = .ok (.astore_n 3, 1) := dk_78 (dk_at dksX0_man_1 3 rfl rfl)
theorem dX0_man_26 : decode cX0_man 26 = .ok (.iload_n 2, 1) := dk_28 (dk_at dksX0_man_1 4 rfl rfl)
theorem dX0_man_27 : decode cX0_man 27 = .ok (.tableswitch 106 0 6 #[41, 51, 61, 74, 83, 88, 93], 41) := by decide +kernel
theorem dX0_man_68 : decode cX0_man 68 = .ok (.aload_n 0, 1) := dk_42 (dk_at dksX0_man_3 0 rfl rfl)
theorem dX0_man_69 : decode cX0_man 69 = .ok (.getfield 31, 3) := dk_180 0 31 (dk_at dksX0_man_3 1 rfl rfl)
theorem dX0_man_72 : decode cX0_man 72 = .ok (.getfield 155, 3) := dk_180 0 155 (dk_at dksX0_man_3 4 rfl rfl)
theorem dX0_man_75 : decode cX0_man 75 = .ok (.iload_n 1, 1) := dk_27 (dk_at dksX0_man_3 7 rfl rfl)
theorem dX0_man_76 : decode cX0_man 76 = .ok (.iaload, 1) := dk_46 (dk_at dksX0_man_3 8 rfl rfl)
theorem dX0_man_77 : decode cX0_man 77 = .ok (.ireturn, 1) := dk_172 (dk_at dksX0_man_3 9 rfl rfl)
theorem dX0_man_78 : decode cX0_man 78 = .ok (.aload_n 0, 1) := dk_42 (dk_at dksX0_man_3 10 rfl rfl)
theorem dX0_man_79 : decode cX0_man 79 = .ok (.getfield 31, 3) := dk_180 0 31 (dk_at dksX0_man_3 11 rfl rfl)
theorem dX0_man_82 : decode cX0_man 82 = .ok (.getfield 158, 3) := dk_180 0 158 (dk_at dksX0_man_3 14 rfl rfl)
theorem dX0_man_85 : decode cX0_man 85 = .ok (.iload_n 1, 1) := dk_27 (dk_at dksX0_man_3 17 rfl rfl)
theorem dX0_man_86 : decode cX0_man 86 = .ok (.iaload, 1) := dk_46 (dk_at dksX0_man_3 18 rfl rfl)
theorem dX0_man_87 : decode cX0_man 87 = .ok (.ireturn, 1) := dk_172 (dk_at dksX0_man_3 19 rfl rfl)
theorem dX0_man_88 : decode cX0_man 88 = .ok (.aload_n 0, 1) := dk_42 (dk_at dksX0_man_3 20 rfl rfl)
theorem dX0_man_89 : decode cX0_man 89 = .ok (.getfield 31, 3) := dk_180 0 31 (dk_at dksX0_man_3 21 rfl rfl)
theorem dX0_man_92 : decode cX0_man 92 = .ok (.aload_n 0, 1) := dk_42 (dk_at dksX0_man_4 0 rfl rfl)
theorem dX0_man_93 : decode cX0_man 93 = .ok (.getfield 20, 3) := dk_180 0 20 (dk_at dksX0_man_4 1 rfl rfl)
theorem dX0_man_96 : decode cX0_man 96 = .ok (.iload_n 1, 1) := dk_27 (dk_at dksX0_man_4 4 rfl rfl)
theorem dX0_man_97 : decode cX0_man 97 = .ok (.invokevirtual 161, 3) := dk_182 0 161 (dk_at dksX0_man_4 5 rfl rfl)
theorem dX0_man_100 : decode cX0_man 100 = .ok (.ireturn, 1) := dk_172 (dk_at dksX0_man_4 8 rfl rfl)
theorem dX0_man_101 : decode cX0_man 101 = .ok (.aload_n 0, 1) := dk_42 (dk_at dksX0_man_4 9 rfl rfl)
theorem dX0_man_102 : decode cX0_man 102 = .ok (.getfield 31, 3) := dk_180 0 31 (dk_at dksX0_man_4 10 rfl rfl)
theorem dX0_man_105 : decode cX0_man 105 = .ok (.iload_n 1, 1) := dk_27 (dk_at dksX0_man_4 13 rfl rfl)
theorem dX0_man_106 : decode cX0_man 106 = .ok (.invokevirtual 165, 3) := dk_182 0 165 (dk_at dksX0_man_4 14 rfl rfl)
theorem dX0_man_109 : decode cX0_man 109 = .ok (.ireturn, 1) := dk_172 (dk_at dksX0_man_4 17 rfl rfl)
theorem dX0_man_110 : decode cX0_man 110 = .ok (.aload_n 3, 1) := dk_45 (dk_at dksX0_man_4 18 rfl rfl)
theorem dX0_man_111 : decode cX0_man 111 = .ok (.invokevirtual 169, 3) := dk_182 0 169 (dk_at dksX0_man_4 19 rfl rfl)
theorem dX0_man_114 : decode cX0_man 114 = .ok (.ireturn, 1) := dk_172 (dk_at dksX0_man_4 22 rfl rfl)
theorem dX0_man_115 : decode cX0_man 115 = .ok (.aload_n 3, 1) := dk_45 (dk_at dksX0_man_4 23 rfl rfl)
theorem dX0_man_116 : decode cX0_man 116 = .ok (.getfield 172, 3) := dk_180 0 172 (dk_at dksX0_man_5 0 rfl rfl)
theorem dX0_man_119 : decode cX0_man 119 = .ok (.ireturn, 1) := dk_172 (dk_at dksX0_man_5 3 rfl rfl)
theorem dX0_man_120 : decode cX0_man 120 = .ok (.aload_n 3, 1) := dk_45 (dk_at dksX0_man_5 4 rfl rfl)
theorem dX0_man_121 : decode cX0_man 121 = .ok (.getfield 175, 3) := dk_180 0 175 (dk_at dksX0_man_5 5 rfl rfl)
theorem dX0_man_124 : decode cX0_man 124 = .ok (.ifCond .eq 7, 3) := dk_153 0 7 (dk_at dksX0_man_5 8 rfl rfl)
theorem dX0_man_127 : decode cX0_man 127 = .ok (.iconst 1, 1) := dk_4 (dk_at dksX0_man_5 11 rfl rfl)
theorem dX0_man_128 : decode cX0_man 128 = .ok (.goto 4, 3) := dk_167 0 4 (dk_at dksX0_man_5 12 rfl rfl)
theorem dX0_man_131 : decode cX0_man 131 = .ok (.iconst 0, 1) := dk_3 (dk_at dksX0_man_5 15 rfl rfl)
theorem dX0_man_132 : decode cX0_man 132 = .ok (.ireturn, 1) := dk_172 (dk_at dksX0_man_5 16 rfl rfl)
theorem dX0_man_133 : decode cX0_man 133 = .ok (.ldc 148, 2) := dk_18 148 (dk_at dksX0_man_5 17 rfl rfl)
theorem dX0_man_135 : decode cX0_man 135 = .ok (.ireturn, 1) := dk_172 (dk_at dksX0_man_5 19 rfl rfl)
abbrev cX0_isMan : ByteArray := prog_1_method_9_code
def yX0_isMan : MethodName := ⟨RX0, "isMan", "(I)Z"⟩
def dkwX0_isMan_0 : List UInt8 := [27, 3, 42, 182, 0, 126, 4, 100, 184, 0, 138, 172]
abbrev dktX0_isMan_0 : List UInt8 := dkwX0_isMan_0 ++ []
theorem dksX0_isMan_0 : cX0_isMan.data.toList.drop 0 = dktX0_isMan_0 := by decide +kernel
theorem dX0_isMan_0 : decode cX0_isMan 0 = .ok (.iload_n 1, 1) := dk_27 (dk_at dksX0_isMan_0 0 rfl rfl)
theorem dX0_isMan_1 : decode cX0_isMan 1 = .ok (.iconst 0, 1) := dk_3 (dk_at dksX0_isMan_0 1 rfl rfl)
theorem dX0_isMan_2 : decode cX0_isMan 2 = .ok (.aload_n 0, 1) := dk_42 (dk_at dksX0_isMan_0 2 rfl rfl)
theorem dX0_isMan_3 : decode cX0_isMan 3 = .ok (.invokevirtual 126, 3) := dk_182 0 126 (dk_at dksX0_isMan_0 3 rfl rfl)
theorem dX0_isMan_6 : decode cX0_isMan 6 = .ok (.iconst 1, 1) := dk_4 (dk_at dksX0_isMan_0 6 rfl rfl)
theorem dX0_isMan_7 : decode cX0_isMan 7 = .ok (.isub, 1) := dk_100 (dk_at dksX0_isMan_0 7 rfl rfl)
theorem dX0_isMan_8 : decode cX0_isMan 8 = .ok (.invokestatic 138, 3) := dk_184 0 138 (dk_at dksX0_isMan_0 8 rfl rfl)
theorem dX0_isMan_11 : decode cX0_isMan 11 = .ok (.ireturn, 1) := dk_172 (dk_at dksX0_isMan_0 11 rfl rfl)
abbrev cX0_isIn : ByteArray := prog_1_method_1_code
def yX0_isIn : MethodName := ⟨RX0, "isIn", "(III)Z"⟩
def dkwX0_isIn_0 : List UInt8 := [26, 27, 161, 0, 12, 26, 28, 163, 0, 7, 4, 167, 0, 4, 3, 172]
abbrev dktX0_isIn_0 : List UInt8 := dkwX0_isIn_0 ++ []
theorem dksX0_isIn_0 : cX0_isIn.data.toList.drop 0 = dktX0_isIn_0 := by decide +kernel
theorem dX0_isIn_0 : decode cX0_isIn 0 = .ok (.iload_n 0, 1) := dk_26 (dk_at dksX0_isIn_0 0 rfl rfl)
theorem dX0_isIn_1 : decode cX0_isIn 1 = .ok (.iload_n 1, 1) := dk_27 (dk_at dksX0_isIn_0 1 rfl rfl)
theorem dX0_isIn_2 : decode cX0_isIn 2 = .ok (.if_icmp .lt 12, 3) := dk_161 0 12 (dk_at dksX0_isIn_0 2 rfl rfl)
theorem dX0_isIn_5 : decode cX0_isIn 5 = .ok (.iload_n 0, 1) := dk_26 (dk_at dksX0_isIn_0 5 rfl rfl)
theorem dX0_isIn_6 : decode cX0_isIn 6 = .ok (.iload_n 2, 1) := dk_28 (dk_at dksX0_isIn_0 6 rfl rfl)
theorem dX0_isIn_7 : decode cX0_isIn 7 = .ok (.if_icmp .gt 7, 3) := dk_163 0 7 (dk_at dksX0_isIn_0 7 rfl rfl)
theorem dX0_isIn_10 : decode cX0_isIn 10 = .ok (.iconst 1, 1) := dk_4 (dk_at dksX0_isIn_0 10 rfl rfl)
theorem dX0_isIn_11 : decode cX0_isIn 11 = .ok (.goto 4, 3) := dk_167 0 4 (dk_at dksX0_isIn_0 11 rfl rfl)
theorem dX0_isIn_14 : decode cX0_isIn 14 = .ok (.iconst 0, 1) := dk_3 (dk_at dksX0_isIn_0 14 rfl rfl)
theorem dX0_isIn_15 : decode cX0_isIn 15 = .ok (.ireturn, 1) := dk_172 (dk_at dksX0_isIn_0 15 rfl rfl)
abbrev cX0_purse : ByteArray := prog_1_method_13_code
def yX0_purse : MethodName := ⟨RX0, "purse", "(II)I"⟩
def dkwX0_purse_1 : List UInt8 := [182, 0, 182, 167, 0, 4, 2, 172]
abbrev dktX0_purse_1 : List UInt8 := dkwX0_purse_1 ++ []
def dkwX0_purse_0 : List UInt8 := [42, 27, 182, 0, 144, 153, 0, 23, 42, 28, 182, 0, 179, 153, 0, 15, 42, 180, 0, 31, 27, 28]
abbrev dktX0_purse_0 : List UInt8 := dkwX0_purse_0 ++ dktX0_purse_1
theorem dksX0_purse_0 : cX0_purse.data.toList.drop 0 = dktX0_purse_0 := by decide +kernel
theorem dksX0_purse_1 : cX0_purse.data.toList.drop 22 = dktX0_purse_1 := dk_seg dksX0_purse_0 22 rfl rfl
theorem dX0_purse_0 : decode cX0_purse 0 = .ok (.aload_n 0, 1) := dk_42 (dk_at dksX0_purse_0 0 rfl rfl)
theorem dX0_purse_1 : decode cX0_purse 1 = .ok (.iload_n 1, 1) := dk_27 (dk_at dksX0_purse_0 1 rfl rfl)
theorem dX0_purse_2 : decode cX0_purse 2 = .ok (.invokevirtual 144, 3) := dk_182 0 144 (dk_at dksX0_purse_0 2 rfl rfl)
theorem dX0_purse_5 : decode cX0_purse 5 = .ok (.ifCond .eq 23, 3) := dk_153 0 23 (dk_at dksX0_purse_0 5 rfl rfl)
theorem dX0_purse_8 : decode cX0_purse 8 = .ok (.aload_n 0, 1) := dk_42 (dk_at dksX0_purse_0 8 rfl rfl)
theorem dX0_purse_9 : decode cX0_purse 9 = .ok (.iload_n 2, 1) := dk_28 (dk_at dksX0_purse_0 9 rfl rfl)
theorem dX0_purse_10 : decode cX0_purse 10 = .ok (.invokevirtual 179, 3) := dk_182 0 179 (dk_at dksX0_purse_0 10 rfl rfl)
theorem dX0_purse_13 : decode cX0_purse 13 = .ok (.ifCond .eq 15, 3) := dk_153 0 15 (dk_at dksX0_purse_0 13 rfl rfl)
theorem dX0_purse_16 : decode cX0_purse 16 = .ok (.aload_n 0, 1) := dk_42 (dk_at dksX0_purse_0 16 rfl rfl)
theorem dX0_purse_17 : decode cX0_purse 17 = .ok (.getfield 31, 3) := dk_180 0 31 (dk_at dksX0_purse_0 17 rfl rfl)
theorem dX0_purse_20 : decode cX0_purse 20 = .ok (.iload_n 1, 1) := dk_27 (dk_at dksX0_purse_0 20 rfl rfl)
theorem dX0_purse_21 : decode cX0_purse 21 = .ok (.iload_n 2, 1) := dk_28 (dk_at dksX0_purse_0 21 rfl rfl)
theorem dX0_purse_22 : decode cX0_purse 22 = .ok (.invokevirtual 182, 3) := dk_182 0 182 (dk_at dksX0_purse_1 0 rfl rfl)
theorem dX0_purse_25 : decode cX0_purse 25 = .ok (.goto 4, 3) := dk_167 0 4 (dk_at dksX0_purse_1 3 rfl rfl)
theorem dX0_purse_28 : decode cX0_purse 28 = .ok (.iconst (-1), 1) := dk_2 (dk_at dksX0_purse_1 6 rfl rfl)
theorem dX0_purse_29 : decode cX0_purse 29 = .ok (.ireturn, 1) := dk_172 (dk_at dksX0_purse_1 7 rfl rfl)
abbrev cX0_isKind : ByteArray := prog_1_method_10_code
def yX0_isKind : MethodName := ⟨RX0, "isKind", "(I)Z"⟩
def dkwX0_isKind_0 : List UInt8 := [27, 3, 42, 182, 0, 142, 4, 100, 184, 0, 138, 172]
abbrev dktX0_isKind_0 : List UInt8 := dkwX0_isKind_0 ++ []
theorem dksX0_isKind_0 : cX0_isKind.data.toList.drop 0 = dktX0_isKind_0 := by decide +kernel
theorem dX0_isKind_0 : decode cX0_isKind 0 = .ok (.iload_n 1, 1) := dk_27 (dk_at dksX0_isKind_0 0 rfl rfl)
theorem dX0_isKind_1 : decode cX0_isKind 1 = .ok (.iconst 0, 1) := dk_3 (dk_at dksX0_isKind_0 1 rfl rfl)
theorem dX0_isKind_2 : decode cX0_isKind 2 = .ok (.aload_n 0, 1) := dk_42 (dk_at dksX0_isKind_0 2 rfl rfl)
theorem dX0_isKind_3 : decode cX0_isKind 3 = .ok (.invokevirtual 142, 3) := dk_182 0 142 (dk_at dksX0_isKind_0 3 rfl rfl)
theorem dX0_isKind_6 : decode cX0_isKind 6 = .ok (.iconst 1, 1) := dk_4 (dk_at dksX0_isKind_0 6 rfl rfl)
theorem dX0_isKind_7 : decode cX0_isKind 7 = .ok (.isub, 1) := dk_100 (dk_at dksX0_isKind_0 7 rfl rfl)
theorem dX0_isKind_8 : decode cX0_isKind 8 = .ok (.invokestatic 138, 3) := dk_184 0 138 (dk_at dksX0_isKind_0 8 rfl rfl)
theorem dX0_isKind_11 : decode cX0_isKind 11 = .ok (.ireturn, 1) := dk_172 (dk_at dksX0_isKind_0 11 rfl rfl)
abbrev cX0_kinds : ByteArray := prog_1_method_8_code
def yX0_kinds : MethodName := ⟨RX0, "kinds", "()I"⟩
def dkwX0_kinds_0 : List UInt8 := [42, 180, 0, 20, 180, 0, 135, 182, 0, 132, 172]
abbrev dktX0_kinds_0 : List UInt8 := dkwX0_kinds_0 ++ []
theorem dksX0_kinds_0 : cX0_kinds.data.toList.drop 0 = dktX0_kinds_0 := by decide +kernel
theorem dX0_kinds_0 : decode cX0_kinds 0 = .ok (.aload_n 0, 1) := dk_42 (dk_at dksX0_kinds_0 0 rfl rfl)
theorem dX0_kinds_1 : decode cX0_kinds 1 = .ok (.getfield 20, 3) := dk_180 0 20 (dk_at dksX0_kinds_0 1 rfl rfl)
theorem dX0_kinds_4 : decode cX0_kinds 4 = .ok (.getfield 135, 3) := dk_180 0 135 (dk_at dksX0_kinds_0 4 rfl rfl)
theorem dX0_kinds_7 : decode cX0_kinds 7 = .ok (.invokevirtual 132, 3) := dk_182 0 132 (dk_at dksX0_kinds_0 7 rfl rfl)
theorem dX0_kinds_10 : decode cX0_kinds 10 = .ok (.ireturn, 1) := dk_172 (dk_at dksX0_kinds_0 10 rfl rfl)
abbrev cX0_over : ByteArray := prog_1_method_14_code
def yX0_over : MethodName := ⟨RX0, "over", "(II)I"⟩
def dkwX0_over_1 : List UInt8 := [27, 104, 28, 96, 46, 167, 0, 4, 2, 172]
abbrev dktX0_over_1 : List UInt8 := dkwX0_over_1 ++ []
def dkwX0_over_0 : List UInt8 := [42, 27, 182, 0, 144, 153, 0, 27, 42, 28, 182, 0, 179, 153, 0, 19, 42, 180, 0, 31, 180, 0, 186, 6]
abbrev dktX0_over_0 : List UInt8 := dkwX0_over_0 ++ dktX0_over_1
theorem dksX0_over_0 : cX0_over.data.toList.drop 0 = dktX0_over_0 := by decide +kernel
theorem dksX0_over_1 : cX0_over.data.toList.drop 24 = dktX0_over_1 := dk_seg dksX0_over_0 24 rfl rfl
theorem dX0_over_0 : decode cX0_over 0 = .ok (.aload_n 0, 1) := dk_42 (dk_at dksX0_over_0 0 rfl rfl)
theorem dX0_over_1 : decode cX0_over 1 = .ok (.iload_n 1, 1) := dk_27 (dk_at dksX0_over_0 1 rfl rfl)
theorem dX0_over_2 : decode cX0_over 2 = .ok (.invokevirtual 144, 3) := dk_182 0 144 (dk_at dksX0_over_0 2 rfl rfl)
theorem dX0_over_5 : decode cX0_over 5 = .ok (.ifCond .eq 27, 3) := dk_153 0 27 (dk_at dksX0_over_0 5 rfl rfl)
theorem dX0_over_8 : decode cX0_over 8 = .ok (.aload_n 0, 1) := dk_42 (dk_at dksX0_over_0 8 rfl rfl)
theorem dX0_over_9 : decode cX0_over 9 = .ok (.iload_n 2, 1) := dk_28 (dk_at dksX0_over_0 9 rfl rfl)
theorem dX0_over_10 : decode cX0_over 10 = .ok (.invokevirtual 179, 3) := dk_182 0 179 (dk_at dksX0_over_0 10 rfl rfl)
theorem dX0_over_13 : decode cX0_over 13 = .ok (.ifCond .eq 19, 3) := dk_153 0 19 (dk_at dksX0_over_0 13 rfl rfl)
theorem dX0_over_16 : decode cX0_over 16 = .ok (.aload_n 0, 1) := dk_42 (dk_at dksX0_over_0 16 rfl rfl)
theorem dX0_over_17 : decode cX0_over 17 = .ok (.getfield 31, 3) := dk_180 0 31 (dk_at dksX0_over_0 17 rfl rfl)
theorem dX0_over_20 : decode cX0_over 20 = .ok (.getfield 186, 3) := dk_180 0 186 (dk_at dksX0_over_0 20 rfl rfl)
theorem dX0_over_23 : decode cX0_over 23 = .ok (.iconst 3, 1) := dk_6 (dk_at dksX0_over_0 23 rfl rfl)
theorem dX0_over_24 : decode cX0_over 24 = .ok (.iload_n 1, 1) := dk_27 (dk_at dksX0_over_1 0 rfl rfl)
theorem dX0_over_25 : decode cX0_over 25 = .ok (.imul, 1) := dk_104 (dk_at dksX0_over_1 1 rfl rfl)
theorem dX0_over_26 : decode cX0_over 26 = .ok (.iload_n 2, 1) := dk_28 (dk_at dksX0_over_1 2 rfl rfl)
theorem dX0_over_27 : decode cX0_over 27 = .ok (.iadd, 1) := dk_96 (dk_at dksX0_over_1 3 rfl rfl)
theorem dX0_over_28 : decode cX0_over 28 = .ok (.iaload, 1) := dk_46 (dk_at dksX0_over_1 4 rfl rfl)
theorem dX0_over_29 : decode cX0_over 29 = .ok (.goto 4, 3) := dk_167 0 4 (dk_at dksX0_over_1 5 rfl rfl)
theorem dX0_over_32 : decode cX0_over 32 = .ok (.iconst (-1), 1) := dk_2 (dk_at dksX0_over_1 8 rfl rfl)
theorem dX0_over_33 : decode cX0_over 33 = .ok (.ireturn, 1) := dk_172 (dk_at dksX0_over_1 9 rfl rfl)
abbrev cX0_pay : ByteArray := prog_1_method_15_code
def yX0_pay : MethodName := ⟨RX0, "pay", "(II)I"⟩
def dkwX0_pay_1 : List UInt8 := [182, 0, 149, 192, 0, 153, 180, 0, 189, 28, 46, 167, 0, 4, 2, 172]
abbrev dktX0_pay_1 : List UInt8 := dkwX0_pay_1 ++ []
def dkwX0_pay_0 : List UInt8 := [42, 27, 182, 0, 144, 153, 0, 33, 42, 28, 182, 0, 179, 153, 0, 25, 42, 180, 0, 20, 180, 0, 130, 27]
abbrev dktX0_pay_0 : List UInt8 := dkwX0_pay_0 ++ dktX0_pay_1
theorem dksX0_pay_0 : cX0_pay.data.toList.drop 0 = dktX0_pay_0 := by decide +kernel
theorem dksX0_pay_1 : cX0_pay.data.toList.drop 24 = dktX0_pay_1 := dk_seg dksX0_pay_0 24 rfl rfl
theorem dX0_pay_0 : decode cX0_pay 0 = .ok (.aload_n 0, 1) := dk_42 (dk_at dksX0_pay_0 0 rfl rfl)
theorem dX0_pay_1 : decode cX0_pay 1 = .ok (.iload_n 1, 1) := dk_27 (dk_at dksX0_pay_0 1 rfl rfl)
theorem dX0_pay_2 : decode cX0_pay 2 = .ok (.invokevirtual 144, 3) := dk_182 0 144 (dk_at dksX0_pay_0 2 rfl rfl)
theorem dX0_pay_5 : decode cX0_pay 5 = .ok (.ifCond .eq 33, 3) := dk_153 0 33 (dk_at dksX0_pay_0 5 rfl rfl)
theorem dX0_pay_8 : decode cX0_pay 8 = .ok (.aload_n 0, 1) := dk_42 (dk_at dksX0_pay_0 8 rfl rfl)
theorem dX0_pay_9 : decode cX0_pay 9 = .ok (.iload_n 2, 1) := dk_28 (dk_at dksX0_pay_0 9 rfl rfl)
theorem dX0_pay_10 : decode cX0_pay 10 = .ok (.invokevirtual 179, 3) := dk_182 0 179 (dk_at dksX0_pay_0 10 rfl rfl)
theorem dX0_pay_13 : decode cX0_pay 13 = .ok (.ifCond .eq 25, 3) := dk_153 0 25 (dk_at dksX0_pay_0 13 rfl rfl)
theorem dX0_pay_16 : decode cX0_pay 16 = .ok (.aload_n 0, 1) := dk_42 (dk_at dksX0_pay_0 16 rfl rfl)
theorem dX0_pay_17 : decode cX0_pay 17 = .ok (.getfield 20, 3) := dk_180 0 20 (dk_at dksX0_pay_0 17 rfl rfl)
theorem dX0_pay_20 : decode cX0_pay 20 = .ok (.getfield 130, 3) := dk_180 0 130 (dk_at dksX0_pay_0 20 rfl rfl)
theorem dX0_pay_23 : decode cX0_pay 23 = .ok (.iload_n 1, 1) := dk_27 (dk_at dksX0_pay_0 23 rfl rfl)
theorem dX0_pay_24 : decode cX0_pay 24 = .ok (.invokevirtual 149, 3) := dk_182 0 149 (dk_at dksX0_pay_1 0 rfl rfl)
theorem dX0_pay_27 : decode cX0_pay 27 = .ok (.checkcast 153, 3) := dk_192 0 153 (dk_at dksX0_pay_1 3 rfl rfl)
theorem dX0_pay_30 : decode cX0_pay 30 = .ok (.getfield 189, 3) := dk_180 0 189 (dk_at dksX0_pay_1 6 rfl rfl)
theorem dX0_pay_33 : decode cX0_pay 33 = .ok (.iload_n 2, 1) := dk_28 (dk_at dksX0_pay_1 9 rfl rfl)
theorem dX0_pay_34 : decode cX0_pay 34 = .ok (.iaload, 1) := dk_46 (dk_at dksX0_pay_1 10 rfl rfl)
theorem dX0_pay_35 : decode cX0_pay 35 = .ok (.goto 4, 3) := dk_167 0 4 (dk_at dksX0_pay_1 11 rfl rfl)
theorem dX0_pay_38 : decode cX0_pay 38 = .ok (.iconst (-1), 1) := dk_2 (dk_at dksX0_pay_1 14 rfl rfl)
theorem dX0_pay_39 : decode cX0_pay 39 = .ok (.ireturn, 1) := dk_172 (dk_at dksX0_pay_1 15 rfl rfl)
abbrev cX0_all : ByteArray := prog_1_method_16_code
def yX0_all : MethodName := ⟨RX0, "all", "(II)I"⟩
def dkwX0_all_2 : List UInt8 := [167, 0, 10, 42, 21, 4, 27, 182, 0, 192, 96, 62, 132, 4, 1, 167, 255, 217, 29, 172]
abbrev dktX0_all_2 : List UInt8 := dkwX0_all_2 ++ []
def dkwX0_all_1 : List UInt8 := [21, 4, 42, 182, 0, 126, 162, 0, 36, 29, 28, 154, 0, 16, 42, 180, 0, 31, 21, 4, 27, 182, 0, 182]
abbrev dktX0_all_1 : List UInt8 := dkwX0_all_1 ++ dktX0_all_2
def dkwX0_all_0 : List UInt8 := [42, 27, 182, 0, 179, 153, 0, 12, 28, 3, 4, 184, 0, 138, 154, 0, 5, 2, 172, 3, 62, 3, 54, 4]
abbrev dktX0_all_0 : List UInt8 := dkwX0_all_0 ++ dktX0_all_1
theorem dksX0_all_0 : cX0_all.data.toList.drop 0 = dktX0_all_0 := by decide +kernel
theorem dksX0_all_1 : cX0_all.data.toList.drop 24 = dktX0_all_1 := dk_seg dksX0_all_0 24 rfl rfl
theorem dksX0_all_2 : cX0_all.data.toList.drop 48 = dktX0_all_2 := dk_seg dksX0_all_1 24 rfl rfl
theorem dX0_all_0 : decode cX0_all 0 = .ok (.aload_n 0, 1) := dk_42 (dk_at dksX0_all_0 0 rfl rfl)
theorem dX0_all_1 : decode cX0_all 1 = .ok (.iload_n 1, 1) := dk_27 (dk_at dksX0_all_0 1 rfl rfl)
theorem dX0_all_2 : decode cX0_all 2 = .ok (.invokevirtual 179, 3) := dk_182 0 179 (dk_at dksX0_all_0 2 rfl rfl)
theorem dX0_all_5 : decode cX0_all 5 = .ok (.ifCond .eq 12, 3) := dk_153 0 12 (dk_at dksX0_all_0 5 rfl rfl)
theorem dX0_all_8 : decode cX0_all 8 = .ok (.iload_n 2, 1) := dk_28 (dk_at dksX0_all_0 8 rfl rfl)
theorem dX0_all_9 : decode cX0_all 9 = .ok (.iconst 0, 1) := dk_3 (dk_at dksX0_all_0 9 rfl rfl)
theorem dX0_all_10 : decode cX0_all 10 = .ok (.iconst 1, 1) := dk_4 (dk_at dksX0_all_0 10 rfl rfl)
theorem dX0_all_11 : decode cX0_all 11 = .ok (.invokestatic 138, 3) := dk_184 0 138 (dk_at dksX0_all_0 11 rfl rfl)
theorem dX0_all_14 : decode cX0_all 14 = .ok (.ifCond .ne 5, 3) := dk_154 0 5 (dk_at dksX0_all_0 14 rfl rfl)
theorem dX0_all_17 : decode cX0_all 17 = .ok (.iconst (-1), 1) := dk_2 (dk_at dksX0_all_0 17 rfl rfl)
theorem dX0_all_18 : decode cX0_all 18 = .ok (.ireturn, 1) := dk_172 (dk_at dksX0_all_0 18 rfl rfl)
theorem dX0_all_19 : decode cX0_all 19 = .ok (.iconst 0, 1) := dk_3 (dk_at dksX0_all_0 19 rfl rfl)
theorem dX0_all_20 : decode cX0_all 20 = .ok (.istore_n 3, 1) := dk_62 (dk_at dksX0_all_0 20 rfl rfl)
theorem dX0_all_21 : decode cX0_all 21 = .ok (.iconst 0, 1) := dk_3 (dk_at dksX0_all_0 21 rfl rfl)
theorem dX0_all_22 : decode cX0_all 22 = .ok (.istore 4, 2) := dk_54 4 (dk_at dksX0_all_0 22 rfl rfl)
theorem dX0_all_24 : decode cX0_all 24 = .ok (.iload 4, 2) := dk_21 4 (dk_at dksX0_all_1 0 rfl rfl)
theorem dX0_all_26 : decode cX0_all 26 = .ok (.aload_n 0, 1) := dk_42 (dk_at dksX0_all_1 2 rfl rfl)
theorem dX0_all_27 : decode cX0_all 27 = .ok (.invokevirtual 126, 3) := dk_182 0 126 (dk_at dksX0_all_1 3 rfl rfl)
theorem dX0_all_30 : decode cX0_all 30 = .ok (.if_icmp .ge 36, 3) := dk_162 0 36 (dk_at dksX0_all_1 6 rfl rfl)
theorem dX0_all_33 : decode cX0_all 33 = .ok (.iload_n 3, 1) := dk_29 (dk_at dksX0_all_1 9 rfl rfl)
theorem dX0_all_34 : decode cX0_all 34 = .ok (.iload_n 2, 1) := dk_28 (dk_at dksX0_all_1 10 rfl rfl)
theorem dX0_all_35 : decode cX0_all 35 = .ok (.ifCond .ne 16, 3) := dk_154 0 16 (dk_at dksX0_all_1 11 rfl rfl)
theorem dX0_all_38 : decode cX0_all 38 = .ok (.aload_n 0, 1) := dk_42 (dk_at dksX0_all_1 14 rfl rfl)
theorem dX0_all_39 : decode cX0_all 39 = .ok (.getfield 31, 3) := dk_180 0 31 (dk_at dksX0_all_1 15 rfl rfl)
theorem dX0_all_42 : decode cX0_all 42 = .ok (.iload 4, 2) := dk_21 4 (dk_at dksX0_all_1 18 rfl rfl)
theorem dX0_all_44 : decode cX0_all 44 = .ok (.iload_n 1, 1) := dk_27 (dk_at dksX0_all_1 20 rfl rfl)
theorem dX0_all_45 : decode cX0_all 45 = .ok (.invokevirtual 182, 3) := dk_182 0 182 (dk_at dksX0_all_1 21 rfl rfl)
theorem dX0_all_48 : decode cX0_all 48 = .ok (.goto 10, 3) := dk_167 0 10 (dk_at dksX0_all_2 0 rfl rfl)
theorem dX0_all_51 : decode cX0_all 51 = .ok (.aload_n 0, 1) := dk_42 (dk_at dksX0_all_2 3 rfl rfl)
theorem dX0_all_52 : decode cX0_all 52 = .ok (.iload 4, 2) := dk_21 4 (dk_at dksX0_all_2 4 rfl rfl)
theorem dX0_all_54 : decode cX0_all 54 = .ok (.iload_n 1, 1) := dk_27 (dk_at dksX0_all_2 6 rfl rfl)
theorem dX0_all_55 : decode cX0_all 55 = .ok (.invokevirtual 192, 3) := dk_182 0 192 (dk_at dksX0_all_2 7 rfl rfl)
theorem dX0_all_58 : decode cX0_all 58 = .ok (.iadd, 1) := dk_96 (dk_at dksX0_all_2 10 rfl rfl)
theorem dX0_all_59 : decode cX0_all 59 = .ok (.istore_n 3, 1) := dk_62 (dk_at dksX0_all_2 11 rfl rfl)
theorem dX0_all_60 : decode cX0_all 60 = .ok (.iinc 4 1, 3) := dk_132 4 1 (dk_at dksX0_all_2 12 rfl rfl)
theorem dX0_all_63 : decode cX0_all 63 = .ok (.goto (-39), 3) := dk_167 255 217 (dk_at dksX0_all_2 15 rfl rfl)
theorem dX0_all_66 : decode cX0_all 66 = .ok (.iload_n 3, 1) := dk_29 (dk_at dksX0_all_2 18 rfl rfl)
theorem dX0_all_67 : decode cX0_all 67 = .ok (.ireturn, 1) := dk_172 (dk_at dksX0_all_2 19 rfl rfl)
abbrev cX0_left : ByteArray := prog_1_method_17_code
def yX0_left : MethodName := ⟨RX0, "left", "(I)I"⟩
def dkwX0_left_0 : List UInt8 := [42, 27, 182, 0, 144, 153, 0, 15, 42, 42, 180, 0, 31, 27, 182, 0, 194, 167, 0, 4, 2, 172]
abbrev dktX0_left_0 : List UInt8 := dkwX0_left_0 ++ []
theorem dksX0_left_0 : cX0_left.data.toList.drop 0 = dktX0_left_0 := by decide +kernel
theorem dX0_left_0 : decode cX0_left 0 = .ok (.aload_n 0, 1) := dk_42 (dk_at dksX0_left_0 0 rfl rfl)
theorem dX0_left_1 : decode cX0_left 1 = .ok (.iload_n 1, 1) := dk_27 (dk_at dksX0_left_0 1 rfl rfl)
theorem dX0_left_2 : decode cX0_left 2 = .ok (.invokevirtual 144, 3) := dk_182 0 144 (dk_at dksX0_left_0 2 rfl rfl)
theorem dX0_left_5 : decode cX0_left 5 = .ok (.ifCond .eq 15, 3) := dk_153 0 15 (dk_at dksX0_left_0 5 rfl rfl)
theorem dX0_left_8 : decode cX0_left 8 = .ok (.aload_n 0, 1) := dk_42 (dk_at dksX0_left_0 8 rfl rfl)
theorem dX0_left_9 : decode cX0_left 9 = .ok (.aload_n 0, 1) := dk_42 (dk_at dksX0_left_0 9 rfl rfl)
theorem dX0_left_10 : decode cX0_left 10 = .ok (.getfield 31, 3) := dk_180 0 31 (dk_at dksX0_left_0 10 rfl rfl)
theorem dX0_left_13 : decode cX0_left 13 = .ok (.iload_n 1, 1) := dk_27 (dk_at dksX0_left_0 13 rfl rfl)
theorem dX0_left_14 : decode cX0_left 14 = .ok (.invokevirtual 194, 3) := dk_182 0 194 (dk_at dksX0_left_0 14 rfl rfl)
theorem dX0_left_17 : decode cX0_left 17 = .ok (.goto 4, 3) := dk_167 0 4 (dk_at dksX0_left_0 17 rfl rfl)
theorem dX0_left_20 : decode cX0_left 20 = .ok (.iconst (-1), 1) := dk_2 (dk_at dksX0_left_0 20 rfl rfl)
theorem dX0_left_21 : decode cX0_left 21 = .ok (.ireturn, 1) := dk_172 (dk_at dksX0_left_0 21 rfl rfl)
abbrev cX0_left_2 : ByteArray := prog_1_method_20_code
def yX0_left_2 : MethodName := ⟨RX0, "left", "(LWeatherWages$Plots;I)I"⟩
def dkwX0_left_2_0 : List UInt8 := [3, 42, 180, 0, 20, 180, 0, 208, 43, 180, 0, 158, 28, 46, 100, 184, 0, 211, 172]
abbrev dktX0_left_2_0 : List UInt8 := dkwX0_left_2_0 ++ []
theorem dksX0_left_2_0 : cX0_left_2.data.toList.drop 0 = dktX0_left_2_0 := by decide +kernel
theorem dX0_left_2_0 : decode cX0_left_2 0 = .ok (.iconst 0, 1) := dk_3 (dk_at dksX0_left_2_0 0 rfl rfl)
theorem dX0_left_2_1 : decode cX0_left_2 1 = .ok (.aload_n 0, 1) := dk_42 (dk_at dksX0_left_2_0 1 rfl rfl)
theorem dX0_left_2_2 : decode cX0_left_2 2 = .ok (.getfield 20, 3) := dk_180 0 20 (dk_at dksX0_left_2_0 2 rfl rfl)
theorem dX0_left_2_5 : decode cX0_left_2 5 = .ok (.getfield 208, 3) := dk_180 0 208 (dk_at dksX0_left_2_0 5 rfl rfl)
theorem dX0_left_2_8 : decode cX0_left_2 8 = .ok (.aload_n 1, 1) := dk_43 (dk_at dksX0_left_2_0 8 rfl rfl)
theorem dX0_left_2_9 : decode cX0_left_2 9 = .ok (.getfield 158, 3) := dk_180 0 158 (dk_at dksX0_left_2_0 9 rfl rfl)
theorem dX0_left_2_12 : decode cX0_left_2 12 = .ok (.iload_n 2, 1) := dk_28 (dk_at dksX0_left_2_0 12 rfl rfl)
theorem dX0_left_2_13 : decode cX0_left_2 13 = .ok (.iaload, 1) := dk_46 (dk_at dksX0_left_2_0 13 rfl rfl)
theorem dX0_left_2_14 : decode cX0_left_2 14 = .ok (.isub, 1) := dk_100 (dk_at dksX0_left_2_0 14 rfl rfl)
theorem dX0_left_2_15 : decode cX0_left_2 15 = .ok (.invokestatic 211, 3) := dk_184 0 211 (dk_at dksX0_left_2_0 15 rfl rfl)
theorem dX0_left_2_18 : decode cX0_left_2 18 = .ok (.ireturn, 1) := dk_172 (dk_at dksX0_left_2_0 18 rfl rfl)
abbrev cX0_spend : ByteArray := prog_1_method_21_code
def yX0_spend : MethodName := ⟨RX0, "spend", "(III)I"⟩
def dkwX0_spend_3 : List UInt8 := [182, 0, 219, 42, 27, 28, 182, 0, 192, 172]
abbrev dktX0_spend_3 : List UInt8 := dkwX0_spend_3 ++ []
def dkwX0_spend_2 : List UInt8 := [182, 0, 194, 164, 0, 5, 2, 172, 42, 182, 0, 216, 42, 180, 0, 31, 42, 180, 0, 20, 27, 28, 29]
abbrev dktX0_spend_2 : List UInt8 := dkwX0_spend_2 ++ dktX0_spend_3
def dkwX0_spend_1 : List UInt8 := [153, 0, 29, 29, 42, 180, 0, 31, 27, 28, 182, 0, 182, 163, 0, 16, 29, 42, 42, 180, 0, 31, 27]
abbrev dktX0_spend_1 : List UInt8 := dkwX0_spend_1 ++ dktX0_spend_2
def dkwX0_spend_0 : List UInt8 := [42, 27, 182, 0, 144, 153, 0, 47, 42, 28, 182, 0, 179, 153, 0, 39, 29, 4, 16, 8, 184, 0, 138]
abbrev dktX0_spend_0 : List UInt8 := dkwX0_spend_0 ++ dktX0_spend_1
theorem dksX0_spend_0 : cX0_spend.data.toList.drop 0 = dktX0_spend_0 := by decide +kernel
theorem dksX0_spend_1 : cX0_spend.data.toList.drop 23 = dktX0_spend_1 := dk_seg dksX0_spend_0 23 rfl rfl
theorem dksX0_spend_2 : cX0_spend.data.toList.drop 46 = dktX0_spend_2 := dk_seg dksX0_spend_1 23 rfl rfl
theorem dksX0_spend_3 : cX0_spend.data.toList.drop 69 = dktX0_spend_3 := dk_seg dksX0_spend_2 23 rfl rfl
theorem dX0_spend_0 : decode cX0_spend 0 = .ok (.aload_n 0, 1) := dk_42 (dk_at dksX0_spend_0 0 rfl rfl)
theorem dX0_spend_1 : decode cX0_spend 1 = .ok (.iload_n 1, 1) := dk_27 (dk_at dksX0_spend_0 1 rfl rfl)
theorem dX0_spend_2 : decode cX0_spend 2 = .ok (.invokevirtual 144, 3) := dk_182 0 144 (dk_at dksX0_spend_0 2 rfl rfl)
theorem dX0_spend_5 : decode cX0_spend 5 = .ok (.ifCond .eq 47, 3) := dk_153 0 47 (dk_at dksX0_spend_0 5 rfl rfl)
theorem dX0_spend_8 : decode cX0_spend 8 = .ok (.aload_n 0, 1) := dk_42 (dk_at dksX0_spend_0 8 rfl rfl)
theorem dX0_spend_9 : decode cX0_spend 9 = .ok (.iload_n 2, 1) := dk_28 (dk_at dksX0_spend_0 9 rfl rfl)
theorem dX0_spend_10 : decode cX0_spend 10 = .ok (.invokevirtual 179, 3) := dk_182 0 179 (dk_at dksX0_spend_0 10 rfl rfl)
theorem dX0_spend_13 : decode cX0_spend 13 = .ok (.ifCond .eq 39, 3) := dk_153 0 39 (dk_at dksX0_spend_0 13 rfl rfl)
theorem dX0_spend_16 : decode cX0_spend 16 = .ok (.iload_n 3, 1) := dk_29 (dk_at dksX0_spend_0 16 rfl rfl)
theorem dX0_spend_17 : decode cX0_spend 17 = .ok (.iconst 1, 1) := dk_4 (dk_at dksX0_spend_0 17 rfl rfl)
theorem dX0_spend_18 : decode cX0_spend 18 = .ok (.bipush 8, 2) := dk_16 8 (dk_at dksX0_spend_0 18 rfl rfl)
theorem dX0_spend_20 : decode cX0_spend 20 = .ok (.invokestatic 138, 3) := dk_184 0 138 (dk_at dksX0_spend_0 20 rfl rfl)
theorem dX0_spend_23 : decode cX0_spend 23 = .ok (.ifCond .eq 29, 3) := dk_153 0 29 (dk_at dksX0_spend_1 0 rfl rfl)
theorem dX0_spend_26 : decode cX0_spend 26 = .ok (.iload_n 3, 1) := dk_29 (dk_at dksX0_spend_1 3 rfl rfl)
theorem dX0_spend_27 : decode cX0_spend 27 = .ok (.aload_n 0, 1) := dk_42 (dk_at dksX0_spend_1 4 rfl rfl)
theorem dX0_spend_28 : decode cX0_spend 28 = .ok (.getfield 31, 3) := dk_180 0 31 (dk_at dksX0_spend_1 5 rfl rfl)
theorem dX0_spend_31 : decode cX0_spend 31 = .ok (.iload_n 1, 1) := dk_27 (dk_at dksX0_spend_1 8 rfl rfl)
theorem dX0_spend_32 : decode cX0_spend 32 = .ok (.iload_n 2, 1) := dk_28 (dk_at dksX0_spend_1 9 rfl rfl)
theorem dX0_spend_33 : decode cX0_spend 33 = .ok (.invokevirtual 182, 3) := dk_182 0 182 (dk_at dksX0_spend_1 10 rfl rfl)
theorem dX0_spend_36 : decode cX0_spend 36 = .ok (.if_icmp .gt 16, 3) := dk_163 0 16 (dk_at dksX0_spend_1 13 rfl rfl)
theorem dX0_spend_39 : decode cX0_spend 39 = .ok (.iload_n 3, 1) := dk_29 (dk_at dksX0_spend_1 16 rfl rfl)
theorem dX0_spend_40 : decode cX0_spend 40 = .ok (.aload_n 0, 1) := dk_42 (dk_at dksX0_spend_1 17 rfl rfl)
theorem dX0_spend_41 : decode cX0_spend 41 = .ok (.aload_n 0, 1) := dk_42 (dk_at dksX0_spend_1 18 rfl rfl)
theorem dX0_spend_42 : decode cX0_spend 42 = .ok (.getfield 31, 3) := dk_180 0 31 (dk_at dksX0_spend_1 19 rfl rfl)
theorem dX0_spend_45 : decode cX0_spend 45 = .ok (.iload_n 1, 1) := dk_27 (dk_at dksX0_spend_1 22 rfl rfl)
theorem dX0_spend_46 : decode cX0_spend 46 = .ok (.invokevirtual 194, 3) := dk_182 0 194 (dk_at dksX0_spend_2 0 rfl rfl)
theorem dX0_spend_49 : decode cX0_spend 49 = .ok (.if_icmp .le 5, 3) := dk_164 0 5 (dk_at dksX0_spend_2 3 rfl rfl)
theorem dX0_spend_52 : decode cX0_spend 52 = .ok (.iconst (-1), 1) := dk_2 (dk_at dksX0_spend_2 6 rfl rfl)
theorem dX0_spend_53 : decode cX0_spend 53 = .ok (.ireturn, 1) := dk_172 (dk_at dksX0_spend_2 7 rfl rfl)
theorem dX0_spend_54 : decode cX0_spend 54 = .ok (.aload_n 0, 1) := dk_42 (dk_at dksX0_spend_2 8 rfl rfl)
theorem dX0_spend_55 : decode cX0_spend 55 = .ok (.invokevirtual 216, 3) := dk_182 0 216 (dk_at dksX0_spend_2 9 rfl rfl)
theorem dX0_spend_58 : decode cX0_spend 58 = .ok (.aload_n 0, 1) := dk_42 (dk_at dksX0_spend_2 12 rfl rfl)
theorem dX0_spend_59 : decode cX0_spend 59 = .ok (.getfield 31, 3) := dk_180 0 31 (dk_at dksX0_spend_2 13 rfl rfl)
theorem dX0_spend_62 : decode cX0_spend 62 = .ok (.aload_n 0, 1) := dk_42 (dk_at dksX0_spend_2 16 rfl rfl)
theorem dX0_spend_63 : decode cX0_spend 63 = .ok (.getfield 20, 3) := dk_180 0 20 (dk_at dksX0_spend_2 17 rfl rfl)
theorem dX0_spend_66 : decode cX0_spend 66 = .ok (.iload_n 1, 1) := dk_27 (dk_at dksX0_spend_2 20 rfl rfl)
theorem dX0_spend_67 : decode cX0_spend 67 = .ok (.iload_n 2, 1) := dk_28 (dk_at dksX0_spend_2 21 rfl rfl)
theorem dX0_spend_68 : decode cX0_spend 68 = .ok (.iload_n 3, 1) := dk_29 (dk_at dksX0_spend_2 22 rfl rfl)
theorem dX0_spend_69 : decode cX0_spend 69 = .ok (.invokevirtual 219, 3) := dk_182 0 219 (dk_at dksX0_spend_3 0 rfl rfl)
theorem dX0_spend_72 : decode cX0_spend 72 = .ok (.aload_n 0, 1) := dk_42 (dk_at dksX0_spend_3 3 rfl rfl)
theorem dX0_spend_73 : decode cX0_spend 73 = .ok (.iload_n 1, 1) := dk_27 (dk_at dksX0_spend_3 4 rfl rfl)
theorem dX0_spend_74 : decode cX0_spend 74 = .ok (.iload_n 2, 1) := dk_28 (dk_at dksX0_spend_3 5 rfl rfl)
theorem dX0_spend_75 : decode cX0_spend 75 = .ok (.invokevirtual 192, 3) := dk_182 0 192 (dk_at dksX0_spend_3 6 rfl rfl)
theorem dX0_spend_78 : decode cX0_spend 78 = .ok (.ireturn, 1) := dk_172 (dk_at dksX0_spend_3 9 rfl rfl)
abbrev cX0_act : ByteArray := prog_1_method_18_code
def yX0_act : MethodName := ⟨RX0, "act", "()V"⟩
def dkwX0_act_3 : List UInt8 := [180, 0, 103, 4, 96, 181, 0, 103, 42, 3, 181, 0, 106, 177]
abbrev dktX0_act_3 : List UInt8 := dkwX0_act_3 ++ []
def dkwX0_act_2 : List UInt8 := [181, 0, 103, 42, 180, 0, 44, 42, 180, 0, 103, 50, 42, 180, 0, 31, 182, 0, 204, 87, 42, 89]
abbrev dktX0_act_2 : List UInt8 := dkwX0_act_2 ++ dktX0_act_3
def dkwX0_act_1 : List UInt8 := [180, 0, 44, 3, 16, 39, 184, 0, 198, 42, 180, 0, 44, 16, 39, 43, 83, 42, 89, 180, 0, 103, 4, 100]
abbrev dktX0_act_1 : List UInt8 := dkwX0_act_1 ++ dktX0_act_2
def dkwX0_act_0 : List UInt8 := [42, 180, 0, 103, 16, 40, 160, 0, 43, 42, 180, 0, 44, 3, 50, 76, 42, 180, 0, 44, 4, 42]
abbrev dktX0_act_0 : List UInt8 := dkwX0_act_0 ++ dktX0_act_1
theorem dksX0_act_0 : cX0_act.data.toList.drop 0 = dktX0_act_0 := by decide +kernel
theorem dksX0_act_1 : cX0_act.data.toList.drop 22 = dktX0_act_1 := dk_seg dksX0_act_0 22 rfl rfl
theorem dksX0_act_2 : cX0_act.data.toList.drop 46 = dktX0_act_2 := dk_seg dksX0_act_1 24 rfl rfl
theorem dksX0_act_3 : cX0_act.data.toList.drop 68 = dktX0_act_3 := dk_seg dksX0_act_2 22 rfl rfl
theorem dX0_act_0 : decode cX0_act 0 = .ok (.aload_n 0, 1) := dk_42 (dk_at dksX0_act_0 0 rfl rfl)
theorem dX0_act_1 : decode cX0_act 1 = .ok (.getfield 103, 3) := dk_180 0 103 (dk_at dksX0_act_0 1 rfl rfl)
theorem dX0_act_4 : decode cX0_act 4 = .ok (.bipush 40, 2) := dk_16 40 (dk_at dksX0_act_0 4 rfl rfl)
theorem dX0_act_6 : decode cX0_act 6 = .ok (.if_icmp .ne 43, 3) := dk_160 0 43 (dk_at dksX0_act_0 6 rfl rfl)
theorem dX0_act_9 : decode cX0_act 9 = .ok (.aload_n 0, 1) := dk_42 (dk_at dksX0_act_0 9 rfl rfl)
theorem dX0_act_10 : decode cX0_act 10 = .ok (.getfield 44, 3) := dk_180 0 44 (dk_at dksX0_act_0 10 rfl rfl)
theorem dX0_act_13 : decode cX0_act 13 = .ok (.iconst 0, 1) := dk_3 (dk_at dksX0_act_0 13 rfl rfl)
theorem dX0_act_14 : decode cX0_act 14 = .ok (.aaload, 1) := dk_50 (dk_at dksX0_act_0 14 rfl rfl)
theorem dX0_act_15 : decode cX0_act 15 = .ok (.astore_n 1, 1) := dk_76 (dk_at dksX0_act_0 15 rfl rfl)
theorem dX0_act_16 : decode cX0_act 16 = .ok (.aload_n 0, 1) := dk_42 (dk_at dksX0_act_0 16 rfl rfl)
theorem dX0_act_17 : decode cX0_act 17 = .ok (.getfield 44, 3) := dk_180 0 44 (dk_at dksX0_act_0 17 rfl rfl)
theorem dX0_act_20 : decode cX0_act 20 = .ok (.iconst 1, 1) := dk_4 (dk_at dksX0_act_0 20 rfl rfl)
theorem dX0_act_21 : decode cX0_act 21 = .ok (.aload_n 0, 1) := dk_42 (dk_at dksX0_act_0 21 rfl rfl)
theorem dX0_act_22 : decode cX0_act 22 = .ok (.getfield 44, 3) := dk_180 0 44 (dk_at dksX0_act_1 0 rfl rfl)
theorem dX0_act_25 : decode cX0_act 25 = .ok (.iconst 0, 1) := dk_3 (dk_at dksX0_act_1 3 rfl rfl)
theorem dX0_act_26 : decode cX0_act 26 = .ok (.bipush 39, 2) := dk_16 39 (dk_at dksX0_act_1 4 rfl rfl)
theorem dX0_act_28 : decode cX0_act 28 = .ok (.invokestatic 198, 3) := dk_184 0 198 (dk_at dksX0_act_1 6 rfl rfl)
theorem dX0_act_31 : decode cX0_act 31 = .ok (.aload_n 0, 1) := dk_42 (dk_at dksX0_act_1 9 rfl rfl)
theorem dX0_act_32 : decode cX0_act 32 = .ok (.getfield 44, 3) := dk_180 0 44 (dk_at dksX0_act_1 10 rfl rfl)
theorem dX0_act_35 : decode cX0_act 35 = .ok (.bipush 39, 2) := dk_16 39 (dk_at dksX0_act_1 13 rfl rfl)
theorem dX0_act_37 : decode cX0_act 37 = .ok (.aload_n 1, 1) := dk_43 (dk_at dksX0_act_1 15 rfl rfl)
theorem dX0_act_38 : decode cX0_act 38 = .ok (.aastore, 1) := dk_83 (dk_at dksX0_act_1 16 rfl rfl)
theorem dX0_act_39 : decode cX0_act 39 = .ok (.aload_n 0, 1) := dk_42 (dk_at dksX0_act_1 17 rfl rfl)
theorem dX0_act_40 : decode cX0_act 40 = .ok (.dup, 1) := dk_89 (dk_at dksX0_act_1 18 rfl rfl)
theorem dX0_act_41 : decode cX0_act 41 = .ok (.getfield 103, 3) := dk_180 0 103 (dk_at dksX0_act_1 19 rfl rfl)
theorem dX0_act_44 : decode cX0_act 44 = .ok (.iconst 1, 1) := dk_4 (dk_at dksX0_act_1 22 rfl rfl)
theorem dX0_act_45 : decode cX0_act 45 = .ok (.isub, 1) := dk_100 (dk_at dksX0_act_1 23 rfl rfl)
theorem dX0_act_46 : decode cX0_act 46 = .ok (.putfield 103, 3) := dk_181 0 103 (dk_at dksX0_act_2 0 rfl rfl)
theorem dX0_act_49 : decode cX0_act 49 = .ok (.aload_n 0, 1) := dk_42 (dk_at dksX0_act_2 3 rfl rfl)
theorem dX0_act_50 : decode cX0_act 50 = .ok (.getfield 44, 3) := dk_180 0 44 (dk_at dksX0_act_2 4 rfl rfl)
theorem dX0_act_53 : decode cX0_act 53 = .ok (.aload_n 0, 1) := dk_42 (dk_at dksX0_act_2 7 rfl rfl)
theorem dX0_act_54 : decode cX0_act 54 = .ok (.getfield 103, 3) := dk_180 0 103 (dk_at dksX0_act_2 8 rfl rfl)
theorem dX0_act_57 : decode cX0_act 57 = .ok (.aaload, 1) := dk_50 (dk_at dksX0_act_2 11 rfl rfl)
theorem dX0_act_58 : decode cX0_act 58 = .ok (.aload_n 0, 1) := dk_42 (dk_at dksX0_act_2 12 rfl rfl)
theorem dX0_act_59 : decode cX0_act 59 = .ok (.getfield 31, 3) := dk_180 0 31 (dk_at dksX0_act_2 13 rfl rfl)
theorem dX0_act_62 : decode cX0_act 62 = .ok (.invokevirtual 204, 3) := dk_182 0 204 (dk_at dksX0_act_2 16 rfl rfl)
theorem dX0_act_65 : decode cX0_act 65 = .ok (.pop, 1) := dk_87 (dk_at dksX0_act_2 19 rfl rfl)
theorem dX0_act_66 : decode cX0_act 66 = .ok (.aload_n 0, 1) := dk_42 (dk_at dksX0_act_2 20 rfl rfl)
theorem dX0_act_67 : decode cX0_act 67 = .ok (.dup, 1) := dk_89 (dk_at dksX0_act_2 21 rfl rfl)
theorem dX0_act_68 : decode cX0_act 68 = .ok (.getfield 103, 3) := dk_180 0 103 (dk_at dksX0_act_3 0 rfl rfl)
theorem dX0_act_71 : decode cX0_act 71 = .ok (.iconst 1, 1) := dk_4 (dk_at dksX0_act_3 3 rfl rfl)
theorem dX0_act_72 : decode cX0_act 72 = .ok (.iadd, 1) := dk_96 (dk_at dksX0_act_3 4 rfl rfl)
theorem dX0_act_73 : decode cX0_act 73 = .ok (.putfield 103, 3) := dk_181 0 103 (dk_at dksX0_act_3 5 rfl rfl)
theorem dX0_act_76 : decode cX0_act 76 = .ok (.aload_n 0, 1) := dk_42 (dk_at dksX0_act_3 8 rfl rfl)
theorem dX0_act_77 : decode cX0_act 77 = .ok (.iconst 0, 1) := dk_3 (dk_at dksX0_act_3 9 rfl rfl)
theorem dX0_act_78 : decode cX0_act 78 = .ok (.putfield 106, 3) := dk_181 0 106 (dk_at dksX0_act_3 10 rfl rfl)
theorem dX0_act_81 : decode cX0_act 81 = .ok (.return_, 1) := dk_177 (dk_at dksX0_act_3 13 rfl rfl)
abbrev cX0_give : ByteArray := prog_1_method_22_code
def yX0_give : MethodName := ⟨RX0, "give", "(IIII)I"⟩
def dkwX0_give_3 : List UInt8 := [180, 0, 31, 28, 29, 21, 4, 182, 0, 228, 42, 180, 0, 31, 28, 29, 182, 0, 182, 172]
abbrev dktX0_give_3 : List UInt8 := dkwX0_give_3 ++ []
def dkwX0_give_2 : List UInt8 := [182, 0, 216, 42, 180, 0, 31, 180, 0, 226, 6, 27, 104, 29, 96, 92, 46, 21, 4, 100, 79, 42]
abbrev dktX0_give_2 : List UInt8 := dkwX0_give_2 ++ dktX0_give_3
def dkwX0_give_1 : List UInt8 := [184, 0, 138, 153, 0, 17, 21, 4, 42, 180, 0, 31, 27, 29, 182, 0, 182, 164, 0, 5, 2, 172, 42]
abbrev dktX0_give_1 : List UInt8 := dkwX0_give_1 ++ dktX0_give_2
def dkwX0_give_0 : List UInt8 := [42, 27, 28, 182, 0, 222, 153, 0, 36, 42, 29, 182, 0, 179, 153, 0, 28, 21, 4, 4, 16, 99]
abbrev dktX0_give_0 : List UInt8 := dkwX0_give_0 ++ dktX0_give_1
theorem dksX0_give_0 : cX0_give.data.toList.drop 0 = dktX0_give_0 := by decide +kernel
theorem dksX0_give_1 : cX0_give.data.toList.drop 22 = dktX0_give_1 := dk_seg dksX0_give_0 22 rfl rfl
theorem dksX0_give_2 : cX0_give.data.toList.drop 45 = dktX0_give_2 := dk_seg dksX0_give_1 23 rfl rfl
theorem dksX0_give_3 : cX0_give.data.toList.drop 67 = dktX0_give_3 := dk_seg dksX0_give_2 22 rfl rfl
theorem dX0_give_0 : decode cX0_give 0 = .ok (.aload_n 0, 1) := dk_42 (dk_at dksX0_give_0 0 rfl rfl)
theorem dX0_give_1 : decode cX0_give 1 = .ok (.iload_n 1, 1) := dk_27 (dk_at dksX0_give_0 1 rfl rfl)
theorem dX0_give_2 : decode cX0_give 2 = .ok (.iload_n 2, 1) := dk_28 (dk_at dksX0_give_0 2 rfl rfl)
theorem dX0_give_3 : decode cX0_give 3 = .ok (.invokevirtual 222, 3) := dk_182 0 222 (dk_at dksX0_give_0 3 rfl rfl)
theorem dX0_give_6 : decode cX0_give 6 = .ok (.ifCond .eq 36, 3) := dk_153 0 36 (dk_at dksX0_give_0 6 rfl rfl)
theorem dX0_give_9 : decode cX0_give 9 = .ok (.aload_n 0, 1) := dk_42 (dk_at dksX0_give_0 9 rfl rfl)
theorem dX0_give_10 : decode cX0_give 10 = .ok (.iload_n 3, 1) := dk_29 (dk_at dksX0_give_0 10 rfl rfl)
theorem dX0_give_11 : decode cX0_give 11 = .ok (.invokevirtual 179, 3) := dk_182 0 179 (dk_at dksX0_give_0 11 rfl rfl)
theorem dX0_give_14 : decode cX0_give 14 = .ok (.ifCond .eq 28, 3) := dk_153 0 28 (dk_at dksX0_give_0 14 rfl rfl)
theorem dX0_give_17 : decode cX0_give 17 = .ok (.iload 4, 2) := dk_21 4 (dk_at dksX0_give_0 17 rfl rfl)
theorem dX0_give_19 : decode cX0_give 19 = .ok (.iconst 1, 1) := dk_4 (dk_at dksX0_give_0 19 rfl rfl)
theorem dX0_give_20 : decode cX0_give 20 = .ok (.bipush 99, 2) := dk_16 99 (dk_at dksX0_give_0 20 rfl rfl)
theorem dX0_give_22 : decode cX0_give 22 = .ok (.invokestatic 138, 3) := dk_184 0 138 (dk_at dksX0_give_1 0 rfl rfl)
theorem dX0_give_25 : decode cX0_give 25 = .ok (.ifCond .eq 17, 3) := dk_153 0 17 (dk_at dksX0_give_1 3 rfl rfl)
theorem dX0_give_28 : decode cX0_give 28 = .ok (.iload 4, 2) := dk_21 4 (dk_at dksX0_give_1 6 rfl rfl)
theorem dX0_give_30 : decode cX0_give 30 = .ok (.aload_n 0, 1) := dk_42 (dk_at dksX0_give_1 8 rfl rfl)
theorem dX0_give_31 : decode cX0_give 31 = .ok (.getfield 31, 3) := dk_180 0 31 (dk_at dksX0_give_1 9 rfl rfl)
theorem dX0_give_34 : decode cX0_give 34 = .ok (.iload_n 1, 1) := dk_27 (dk_at dksX0_give_1 12 rfl rfl)
theorem dX0_give_35 : decode cX0_give 35 = .ok (.iload_n 3, 1) := dk_29 (dk_at dksX0_give_1 13 rfl rfl)
theorem dX0_give_36 : decode cX0_give 36 = .ok (.invokevirtual 182, 3) := dk_182 0 182 (dk_at dksX0_give_1 14 rfl rfl)
theorem dX0_give_39 : decode cX0_give 39 = .ok (.if_icmp .le 5, 3) := dk_164 0 5 (dk_at dksX0_give_1 17 rfl rfl)
theorem dX0_give_42 : decode cX0_give 42 = .ok (.iconst (-1), 1) := dk_2 (dk_at dksX0_give_1 20 rfl rfl)
theorem dX0_give_43 : decode cX0_give 43 = .ok (.ireturn, 1) := dk_172 (dk_at dksX0_give_1 21 rfl rfl)
theorem dX0_give_44 : decode cX0_give 44 = .ok (.aload_n 0, 1) := dk_42 (dk_at dksX0_give_1 22 rfl rfl)
theorem dX0_give_45 : decode cX0_give 45 = .ok (.invokevirtual 216, 3) := dk_182 0 216 (dk_at dksX0_give_2 0 rfl rfl)
theorem dX0_give_48 : decode cX0_give 48 = .ok (.aload_n 0, 1) := dk_42 (dk_at dksX0_give_2 3 rfl rfl)
theorem dX0_give_49 : decode cX0_give 49 = .ok (.getfield 31, 3) := dk_180 0 31 (dk_at dksX0_give_2 4 rfl rfl)
theorem dX0_give_52 : decode cX0_give 52 = .ok (.getfield 226, 3) := dk_180 0 226 (dk_at dksX0_give_2 7 rfl rfl)
theorem dX0_give_55 : decode cX0_give 55 = .ok (.iconst 3, 1) := dk_6 (dk_at dksX0_give_2 10 rfl rfl)
theorem dX0_give_56 : decode cX0_give 56 = .ok (.iload_n 1, 1) := dk_27 (dk_at dksX0_give_2 11 rfl rfl)
theorem dX0_give_57 : decode cX0_give 57 = .ok (.imul, 1) := dk_104 (dk_at dksX0_give_2 12 rfl rfl)
theorem dX0_give_58 : decode cX0_give 58 = .ok (.iload_n 3, 1) := dk_29 (dk_at dksX0_give_2 13 rfl rfl)
theorem dX0_give_59 : decode cX0_give 59 = .ok (.iadd, 1) := dk_96 (dk_at dksX0_give_2 14 rfl rfl)
theorem dX0_give_60 : decode cX0_give 60 = .ok (.dup2, 1) := dk_92 (dk_at dksX0_give_2 15 rfl rfl)
theorem dX0_give_61 : decode cX0_give 61 = .ok (.iaload, 1) := dk_46 (dk_at dksX0_give_2 16 rfl rfl)
theorem dX0_give_62 : decode cX0_give 62 = .ok (.iload 4, 2) := dk_21 4 (dk_at dksX0_give_2 17 rfl rfl)
theorem dX0_give_64 : decode cX0_give 64 = .ok (.isub, 1) := dk_100 (dk_at dksX0_give_2 19 rfl rfl)
theorem dX0_give_65 : decode cX0_give 65 = .ok (.iastore, 1) := dk_79 (dk_at dksX0_give_2 20 rfl rfl)
theorem dX0_give_66 : decode cX0_give 66 = .ok (.aload_n 0, 1) := dk_42 (dk_at dksX0_give_2 21 rfl rfl)
theorem dX0_give_67 : decode cX0_give 67 = .ok (.getfield 31, 3) := dk_180 0 31 (dk_at dksX0_give_3 0 rfl rfl)
theorem dX0_give_70 : decode cX0_give 70 = .ok (.iload_n 2, 1) := dk_28 (dk_at dksX0_give_3 3 rfl rfl)
theorem dX0_give_71 : decode cX0_give 71 = .ok (.iload_n 3, 1) := dk_29 (dk_at dksX0_give_3 4 rfl rfl)
theorem dX0_give_72 : decode cX0_give 72 = .ok (.iload 4, 2) := dk_21 4 (dk_at dksX0_give_3 5 rfl rfl)
theorem dX0_give_74 : decode cX0_give 74 = .ok (.invokevirtual 228, 3) := dk_182 0 228 (dk_at dksX0_give_3 7 rfl rfl)
theorem dX0_give_77 : decode cX0_give 77 = .ok (.aload_n 0, 1) := dk_42 (dk_at dksX0_give_3 10 rfl rfl)
theorem dX0_give_78 : decode cX0_give 78 = .ok (.getfield 31, 3) := dk_180 0 31 (dk_at dksX0_give_3 11 rfl rfl)
theorem dX0_give_81 : decode cX0_give 81 = .ok (.iload_n 2, 1) := dk_28 (dk_at dksX0_give_3 14 rfl rfl)
theorem dX0_give_82 : decode cX0_give 82 = .ok (.iload_n 3, 1) := dk_29 (dk_at dksX0_give_3 15 rfl rfl)
theorem dX0_give_83 : decode cX0_give 83 = .ok (.invokevirtual 182, 3) := dk_182 0 182 (dk_at dksX0_give_3 16 rfl rfl)
theorem dX0_give_86 : decode cX0_give 86 = .ok (.ireturn, 1) := dk_172 (dk_at dksX0_give_3 19 rfl rfl)
abbrev cX0_areTwo : ByteArray := prog_1_method_11_code
def yX0_areTwo : MethodName := ⟨RX0, "areTwo", "(II)Z"⟩
def dkwX0_areTwo_1 : List UInt8 := [167, 0, 4, 3, 172]
abbrev dktX0_areTwo_1 : List UInt8 := dkwX0_areTwo_1 ++ []
def dkwX0_areTwo_0 : List UInt8 := [42, 27, 182, 0, 144, 153, 0, 20, 42, 28, 182, 0, 144, 153, 0, 12, 27, 28, 159, 0, 7, 4]
abbrev dktX0_areTwo_0 : List UInt8 := dkwX0_areTwo_0 ++ dktX0_areTwo_1
theorem dksX0_areTwo_0 : cX0_areTwo.data.toList.drop 0 = dktX0_areTwo_0 := by decide +kernel
theorem dksX0_areTwo_1 : cX0_areTwo.data.toList.drop 22 = dktX0_areTwo_1 := dk_seg dksX0_areTwo_0 22 rfl rfl
theorem dX0_areTwo_0 : decode cX0_areTwo 0 = .ok (.aload_n 0, 1) := dk_42 (dk_at dksX0_areTwo_0 0 rfl rfl)
theorem dX0_areTwo_1 : decode cX0_areTwo 1 = .ok (.iload_n 1, 1) := dk_27 (dk_at dksX0_areTwo_0 1 rfl rfl)
theorem dX0_areTwo_2 : decode cX0_areTwo 2 = .ok (.invokevirtual 144, 3) := dk_182 0 144 (dk_at dksX0_areTwo_0 2 rfl rfl)
theorem dX0_areTwo_5 : decode cX0_areTwo 5 = .ok (.ifCond .eq 20, 3) := dk_153 0 20 (dk_at dksX0_areTwo_0 5 rfl rfl)
theorem dX0_areTwo_8 : decode cX0_areTwo 8 = .ok (.aload_n 0, 1) := dk_42 (dk_at dksX0_areTwo_0 8 rfl rfl)
theorem dX0_areTwo_9 : decode cX0_areTwo 9 = .ok (.iload_n 2, 1) := dk_28 (dk_at dksX0_areTwo_0 9 rfl rfl)
theorem dX0_areTwo_10 : decode cX0_areTwo 10 = .ok (.invokevirtual 144, 3) := dk_182 0 144 (dk_at dksX0_areTwo_0 10 rfl rfl)
theorem dX0_areTwo_13 : decode cX0_areTwo 13 = .ok (.ifCond .eq 12, 3) := dk_153 0 12 (dk_at dksX0_areTwo_0 13 rfl rfl)
theorem dX0_areTwo_16 : decode cX0_areTwo 16 = .ok (.iload_n 1, 1) := dk_27 (dk_at dksX0_areTwo_0 16 rfl rfl)
theorem dX0_areTwo_17 : decode cX0_areTwo 17 = .ok (.iload_n 2, 1) := dk_28 (dk_at dksX0_areTwo_0 17 rfl rfl)
theorem dX0_areTwo_18 : decode cX0_areTwo 18 = .ok (.if_icmp .eq 7, 3) := dk_159 0 7 (dk_at dksX0_areTwo_0 18 rfl rfl)
theorem dX0_areTwo_21 : decode cX0_areTwo 21 = .ok (.iconst 1, 1) := dk_4 (dk_at dksX0_areTwo_0 21 rfl rfl)
theorem dX0_areTwo_22 : decode cX0_areTwo 22 = .ok (.goto 4, 3) := dk_167 0 4 (dk_at dksX0_areTwo_1 0 rfl rfl)
theorem dX0_areTwo_25 : decode cX0_areTwo 25 = .ok (.iconst 0, 1) := dk_3 (dk_at dksX0_areTwo_1 3 rfl rfl)
theorem dX0_areTwo_26 : decode cX0_areTwo 26 = .ok (.ireturn, 1) := dk_172 (dk_at dksX0_areTwo_1 4 rfl rfl)
abbrev cX0_change : ByteArray := prog_1_method_23_code
def yX0_change : MethodName := ⟨RX0, "change", "(III)I"⟩
def dkwX0_change_4 : List UInt8 := [180, 0, 241, 182, 0, 228, 42, 180, 0, 31, 27, 29, 182, 0, 182, 172]
abbrev dktX0_change_4 : List UInt8 := dkwX0_change_4 ++ []
def dkwX0_change_3 : List UInt8 := [6, 27, 104, 28, 96, 92, 46, 25, 4, 180, 0, 236, 100, 79, 42, 180, 0, 31, 27, 29, 25, 4]
abbrev dktX0_change_3 : List UInt8 := dkwX0_change_3 ++ dktX0_change_4
def dkwX0_change_2 : List UInt8 := [180, 0, 31, 27, 28, 182, 0, 182, 164, 0, 5, 2, 172, 42, 182, 0, 216, 42, 180, 0, 31, 180, 0, 226]
abbrev dktX0_change_2 : List UInt8 := dkwX0_change_2 ++ dktX0_change_3
def dkwX0_change_1 : List UInt8 := [2, 172, 42, 180, 0, 20, 28, 29, 182, 0, 232, 58, 4, 25, 4, 198, 0, 20, 25, 4, 180, 0, 236, 42]
abbrev dktX0_change_1 : List UInt8 := dkwX0_change_1 ++ dktX0_change_2
def dkwX0_change_0 : List UInt8 := [42, 27, 182, 0, 144, 153, 0, 19, 42, 28, 182, 0, 179, 153, 0, 11, 42, 29, 182, 0, 179, 154, 0, 5]
abbrev dktX0_change_0 : List UInt8 := dkwX0_change_0 ++ dktX0_change_1
theorem dksX0_change_0 : cX0_change.data.toList.drop 0 = dktX0_change_0 := by decide +kernel
theorem dksX0_change_1 : cX0_change.data.toList.drop 24 = dktX0_change_1 := dk_seg dksX0_change_0 24 rfl rfl
theorem dksX0_change_2 : cX0_change.data.toList.drop 48 = dktX0_change_2 := dk_seg dksX0_change_1 24 rfl rfl
theorem dksX0_change_3 : cX0_change.data.toList.drop 72 = dktX0_change_3 := dk_seg dksX0_change_2 24 rfl rfl
theorem dksX0_change_4 : cX0_change.data.toList.drop 94 = dktX0_change_4 := dk_seg dksX0_change_3 22 rfl rfl
theorem dX0_change_0 : decode cX0_change 0 = .ok (.aload_n 0, 1) := dk_42 (dk_at dksX0_change_0 0 rfl rfl)
theorem dX0_change_1 : decode cX0_change 1 = .ok (.iload_n 1, 1) := dk_27 (dk_at dksX0_change_0 1 rfl rfl)
theorem dX0_change_2 : decode cX0_change 2 = .ok (.invokevirtual 144, 3) := dk_182 0 144 (dk_at dksX0_change_0 2 rfl rfl)
theorem dX0_change_5 : decode cX0_change 5 = .ok (.ifCond .eq 19, 3) := dk_153 0 19 (dk_at dksX0_change_0 5 rfl rfl)
theorem dX0_change_8 : decode cX0_change 8 = .ok (.aload_n 0, 1) := dk_42 (dk_at dksX0_change_0 8 rfl rfl)
theorem dX0_change_9 : decode cX0_change 9 = .ok (.iload_n 2, 1) := dk_28 (dk_at dksX0_change_0 9 rfl rfl)
theorem dX0_change_10 : decode cX0_change 10 = .ok (.invokevirtual 179, 3) := dk_182 0 179 (dk_at dksX0_change_0 10 rfl rfl)
theorem dX0_change_13 : decode cX0_change 13 = .ok (.ifCond .eq 11, 3) := dk_153 0 11 (dk_at dksX0_change_0 13 rfl rfl)
theorem dX0_change_16 : decode cX0_change 16 = .ok (.aload_n 0, 1) := dk_42 (dk_at dksX0_change_0 16 rfl rfl)
theorem dX0_change_17 : decode cX0_change 17 = .ok (.iload_n 3, 1) := dk_29 (dk_at dksX0_change_0 17 rfl rfl)
theorem dX0_change_18 : decode cX0_change 18 = .ok (.invokevirtual 179, 3) := dk_182 0 179 (dk_at dksX0_change_0 18 rfl rfl)
theorem dX0_change_21 : decode cX0_change 21 = .ok (.ifCond .ne 5, 3) := dk_154 0 5 (dk_at dksX0_change_0 21 rfl rfl)
theorem dX0_change_24 : decode cX0_change 24 = .ok (.iconst (-1), 1) := dk_2 (dk_at dksX0_change_1 0 rfl rfl)
theorem dX0_change_25 : decode cX0_change 25 = .ok (.ireturn, 1) := dk_172 (dk_at dksX0_change_1 1 rfl rfl)
theorem dX0_change_26 : decode cX0_change 26 = .ok (.aload_n 0, 1) := dk_42 (dk_at dksX0_change_1 2 rfl rfl)
theorem dX0_change_27 : decode cX0_change 27 = .ok (.getfield 20, 3) := dk_180 0 20 (dk_at dksX0_change_1 3 rfl rfl)
theorem dX0_change_30 : decode cX0_change 30 = .ok (.iload_n 2, 1) := dk_28 (dk_at dksX0_change_1 6 rfl rfl)
theorem dX0_change_31 : decode cX0_change 31 = .ok (.iload_n 3, 1) := dk_29 (dk_at dksX0_change_1 7 rfl rfl)
theorem dX0_change_32 : decode cX0_change 32 = .ok (.invokevirtual 232, 3) := dk_182 0 232 (dk_at dksX0_change_1 8 rfl rfl)
theorem dX0_change_35 : decode cX0_change 35 = .ok (.astore 4, 2) := dk_58 4 (dk_at dksX0_change_1 11 rfl rfl)
theorem dX0_change_37 : decode cX0_change 37 = .ok (.aload 4, 2) := dk_25 4 (dk_at dksX0_change_1 13 rfl rfl)
theorem dX0_change_39 : decode cX0_change 39 = .ok (.ifnull 20, 3) := dk_198 0 20 (dk_at dksX0_change_1 15 rfl rfl)
theorem dX0_change_42 : decode cX0_change 42 = .ok (.aload 4, 2) := dk_25 4 (dk_at dksX0_change_1 18 rfl rfl)
theorem dX0_change_44 : decode cX0_change 44 = .ok (.getfield 236, 3) := dk_180 0 236 (dk_at dksX0_change_1 20 rfl rfl)
theorem dX0_change_47 : decode cX0_change 47 = .ok (.aload_n 0, 1) := dk_42 (dk_at dksX0_change_1 23 rfl rfl)
theorem dX0_change_48 : decode cX0_change 48 = .ok (.getfield 31, 3) := dk_180 0 31 (dk_at dksX0_change_2 0 rfl rfl)
theorem dX0_change_51 : decode cX0_change 51 = .ok (.iload_n 1, 1) := dk_27 (dk_at dksX0_change_2 3 rfl rfl)
theorem dX0_change_52 : decode cX0_change 52 = .ok (.iload_n 2, 1) := dk_28 (dk_at dksX0_change_2 4 rfl rfl)
theorem dX0_change_53 : decode cX0_change 53 = .ok (.invokevirtual 182, 3) := dk_182 0 182 (dk_at dksX0_change_2 5 rfl rfl)
theorem dX0_change_56 : decode cX0_change 56 = .ok (.if_icmp .le 5, 3) := dk_164 0 5 (dk_at dksX0_change_2 8 rfl rfl)
theorem dX0_change_59 : decode cX0_change 59 = .ok (.iconst (-1), 1) := dk_2 (dk_at dksX0_change_2 11 rfl rfl)
theorem dX0_change_60 : decode cX0_change 60 = .ok (.ireturn, 1) := dk_172 (dk_at dksX0_change_2 12 rfl rfl)
theorem dX0_change_61 : decode cX0_change 61 = .ok (.aload_n 0, 1) := dk_42 (dk_at dksX0_change_2 13 rfl rfl)
theorem dX0_change_62 : decode cX0_change 62 = .ok (.invokevirtual 216, 3) := dk_182 0 216 (dk_at dksX0_change_2 14 rfl rfl)
theorem dX0_change_65 : decode cX0_change 65 = .ok (.aload_n 0, 1) := dk_42 (dk_at dksX0_change_2 17 rfl rfl)
theorem dX0_change_66 : decode cX0_change 66 = .ok (.getfield 31, 3) := dk_180 0 31 (dk_at dksX0_change_2 18 rfl rfl)
theorem dX0_change_69 : decode cX0_change 69 = .ok (.getfield 226, 3) := dk_180 0 226 (dk_at dksX0_change_2 21 rfl rfl)
theorem dX0_change_72 : decode cX0_change 72 = .ok (.iconst 3, 1) := dk_6 (dk_at dksX0_change_3 0 rfl rfl)
theorem dX0_change_73 : decode cX0_change 73 = .ok (.iload_n 1, 1) := dk_27 (dk_at dksX0_change_3 1 rfl rfl)
theorem dX0_change_74 : decode cX0_change 74 = .ok (.imul, 1) := dk_104 (dk_at dksX0_change_3 2 rfl rfl)
theorem dX0_change_75 : decode cX0_change 75 = .ok (.iload_n 2, 1) := dk_28 (dk_at dksX0_change_3 3 rfl rfl)
theorem dX0_change_76 : decode cX0_change 76 = .ok (.iadd, 1) := dk_96 (dk_at dksX0_change_3 4 rfl rfl)
theorem dX0_change_77 : decode cX0_change 77 = .ok (.dup2, 1) := dk_92 (dk_at dksX0_change_3 5 rfl rfl)
theorem dX0_change_78 : decode cX0_change 78 = .ok (.iaload, 1) := dk_46 (dk_at dksX0_change_3 6 rfl rfl)
theorem dX0_change_79 : decode cX0_change 79 = .ok (.aload 4, 2) := dk_25 4 (dk_at dksX0_change_3 7 rfl rfl)
theorem dX0_change_81 : decode cX0_change 81 = .ok (.getfield 236, 3) := dk_180 0 236 (dk_at dksX0_change_3 9 rfl rfl)
theorem dX0_change_84 : decode cX0_change 84 = .ok (.isub, 1) := dk_100 (dk_at dksX0_change_3 12 rfl rfl)
theorem dX0_change_85 : decode cX0_change 85 = .ok (.iastore, 1) := dk_79 (dk_at dksX0_change_3 13 rfl rfl)
theorem dX0_change_86 : decode cX0_change 86 = .ok (.aload_n 0, 1) := dk_42 (dk_at dksX0_change_3 14 rfl rfl)
theorem dX0_change_87 : decode cX0_change 87 = .ok (.getfield 31, 3) := dk_180 0 31 (dk_at dksX0_change_3 15 rfl rfl)
theorem dX0_change_90 : decode cX0_change 90 = .ok (.iload_n 1, 1) := dk_27 (dk_at dksX0_change_3 18 rfl rfl)
theorem dX0_change_91 : decode cX0_change 91 = .ok (.iload_n 3, 1) := dk_29 (dk_at dksX0_change_3 19 rfl rfl)
theorem dX0_change_92 : decode cX0_change 92 = .ok (.aload 4, 2) := dk_25 4 (dk_at dksX0_change_3 20 rfl rfl)
theorem dX0_change_94 : decode cX0_change 94 = .ok (.getfield 241, 3) := dk_180 0 241 (dk_at dksX0_change_4 0 rfl rfl)
theorem dX0_change_97 : decode cX0_change 97 = .ok (.invokevirtual 228, 3) := dk_182 0 228 (dk_at dksX0_change_4 3 rfl rfl)
theorem dX0_change_100 : decode cX0_change 100 = .ok (.aload_n 0, 1) := dk_42 (dk_at dksX0_change_4 6 rfl rfl)
theorem dX0_change_101 : decode cX0_change 101 = .ok (.getfield 31, 3) := dk_180 0 31 (dk_at dksX0_change_4 7 rfl rfl)
theorem dX0_change_104 : decode cX0_change 104 = .ok (.iload_n 1, 1) := dk_27 (dk_at dksX0_change_4 10 rfl rfl)
theorem dX0_change_105 : decode cX0_change 105 = .ok (.iload_n 3, 1) := dk_29 (dk_at dksX0_change_4 11 rfl rfl)
theorem dX0_change_106 : decode cX0_change 106 = .ok (.invokevirtual 182, 3) := dk_182 0 182 (dk_at dksX0_change_4 12 rfl rfl)
theorem dX0_change_109 : decode cX0_change 109 = .ok (.ireturn, 1) := dk_172 (dk_at dksX0_change_4 15 rfl rfl)
abbrev cX0_week : ByteArray := prog_1_method_24_code
def yX0_week : MethodName := ⟨RX0, "week", "()I"⟩
def dkwX0_week_1 : List UInt8 := [42, 180, 0, 20, 182, 0, 247, 172]
abbrev dktX0_week_1 : List UInt8 := dkwX0_week_1 ++ []
def dkwX0_week_0 : List UInt8 := [42, 180, 0, 31, 180, 0, 244, 17, 3, 231, 160, 0, 6, 18, 148, 172, 42, 182, 0, 216, 42, 180, 0, 31]
abbrev dktX0_week_0 : List UInt8 := dkwX0_week_0 ++ dktX0_week_1
theorem dksX0_week_0 : cX0_week.data.toList.drop 0 = dktX0_week_0 := by decide +kernel
theorem dksX0_week_1 : cX0_week.data.toList.drop 24 = dktX0_week_1 := dk_seg dksX0_week_0 24 rfl rfl
theorem dX0_week_0 : decode cX0_week 0 = .ok (.aload_n 0, 1) := dk_42 (dk_at dksX0_week_0 0 rfl rfl)
theorem dX0_week_1 : decode cX0_week 1 = .ok (.getfield 31, 3) := dk_180 0 31 (dk_at dksX0_week_0 1 rfl rfl)
theorem dX0_week_4 : decode cX0_week 4 = .ok (.getfield 244, 3) := dk_180 0 244 (dk_at dksX0_week_0 4 rfl rfl)
theorem dX0_week_7 : decode cX0_week 7 = .ok (.sipush 999, 3) := dk_17 3 231 (dk_at dksX0_week_0 7 rfl rfl)
theorem dX0_week_10 : decode cX0_week 10 = .ok (.if_icmp .ne 6, 3) := dk_160 0 6 (dk_at dksX0_week_0 10 rfl rfl)
theorem dX0_week_13 : decode cX0_week 13 = .ok (.ldc 148, 2) := dk_18 148 (dk_at dksX0_week_0 13 rfl rfl)
theorem dX0_week_15 : decode cX0_week 15 = .ok (.ireturn, 1) := dk_172 (dk_at dksX0_week_0 15 rfl rfl)
theorem dX0_week_16 : decode cX0_week 16 = .ok (.aload_n 0, 1) := dk_42 (dk_at dksX0_week_0 16 rfl rfl)
theorem dX0_week_17 : decode cX0_week 17 = .ok (.invokevirtual 216, 3) := dk_182 0 216 (dk_at dksX0_week_0 17 rfl rfl)
theorem dX0_week_20 : decode cX0_week 20 = .ok (.aload_n 0, 1) := dk_42 (dk_at dksX0_week_0 20 rfl rfl)
theorem dX0_week_21 : decode cX0_week 21 = .ok (.getfield 31, 3) := dk_180 0 31 (dk_at dksX0_week_0 21 rfl rfl)
theorem dX0_week_24 : decode cX0_week 24 = .ok (.aload_n 0, 1) := dk_42 (dk_at dksX0_week_1 0 rfl rfl)
theorem dX0_week_25 : decode cX0_week 25 = .ok (.getfield 20, 3) := dk_180 0 20 (dk_at dksX0_week_1 1 rfl rfl)
theorem dX0_week_28 : decode cX0_week 28 = .ok (.invokevirtual 247, 3) := dk_182 0 247 (dk_at dksX0_week_1 4 rfl rfl)
theorem dX0_week_31 : decode cX0_week 31 = .ok (.ireturn, 1) := dk_172 (dk_at dksX0_week_1 7 rfl rfl)
abbrev cX0_undo : ByteArray := prog_1_method_25_code
def yX0_undo : MethodName := ⟨RX0, "undo", "()Z"⟩
def dkwX0_undo_1 : List UInt8 := [4, 96, 181, 0, 106, 42, 42, 180, 0, 44, 42, 180, 0, 103, 50, 182, 0, 251, 4, 172]
abbrev dktX0_undo_1 : List UInt8 := dkwX0_undo_1 ++ []
def dkwX0_undo_0 : List UInt8 := [42, 180, 0, 103, 154, 0, 5, 3, 172, 42, 89, 180, 0, 103, 4, 100, 181, 0, 103, 42, 89, 180, 0, 106]
abbrev dktX0_undo_0 : List UInt8 := dkwX0_undo_0 ++ dktX0_undo_1
theorem dksX0_undo_0 : cX0_undo.data.toList.drop 0 = dktX0_undo_0 := by decide +kernel
theorem dksX0_undo_1 : cX0_undo.data.toList.drop 24 = dktX0_undo_1 := dk_seg dksX0_undo_0 24 rfl rfl
theorem dX0_undo_0 : decode cX0_undo 0 = .ok (.aload_n 0, 1) := dk_42 (dk_at dksX0_undo_0 0 rfl rfl)
theorem dX0_undo_1 : decode cX0_undo 1 = .ok (.getfield 103, 3) := dk_180 0 103 (dk_at dksX0_undo_0 1 rfl rfl)
theorem dX0_undo_4 : decode cX0_undo 4 = .ok (.ifCond .ne 5, 3) := dk_154 0 5 (dk_at dksX0_undo_0 4 rfl rfl)
theorem dX0_undo_7 : decode cX0_undo 7 = .ok (.iconst 0, 1) := dk_3 (dk_at dksX0_undo_0 7 rfl rfl)
theorem dX0_undo_8 : decode cX0_undo 8 = .ok (.ireturn, 1) := dk_172 (dk_at dksX0_undo_0 8 rfl rfl)
theorem dX0_undo_9 : decode cX0_undo 9 = .ok (.aload_n 0, 1) := dk_42 (dk_at dksX0_undo_0 9 rfl rfl)
theorem dX0_undo_10 : decode cX0_undo 10 = .ok (.dup, 1) := dk_89 (dk_at dksX0_undo_0 10 rfl rfl)
theorem dX0_undo_11 : decode cX0_undo 11 = .ok (.getfield 103, 3) := dk_180 0 103 (dk_at dksX0_undo_0 11 rfl rfl)
theorem dX0_undo_14 : decode cX0_undo 14 = .ok (.iconst 1, 1) := dk_4 (dk_at dksX0_undo_0 14 rfl rfl)
theorem dX0_undo_15 : decode cX0_undo 15 = .ok (.isub, 1) := dk_100 (dk_at dksX0_undo_0 15 rfl rfl)
theorem dX0_undo_16 : decode cX0_undo 16 = .ok (.putfield 103, 3) := dk_181 0 103 (dk_at dksX0_undo_0 16 rfl rfl)
theorem dX0_undo_19 : decode cX0_undo 19 = .ok (.aload_n 0, 1) := dk_42 (dk_at dksX0_undo_0 19 rfl rfl)
theorem dX0_undo_20 : decode cX0_undo 20 = .ok (.dup, 1) := dk_89 (dk_at dksX0_undo_0 20 rfl rfl)
theorem dX0_undo_21 : decode cX0_undo 21 = .ok (.getfield 106, 3) := dk_180 0 106 (dk_at dksX0_undo_0 21 rfl rfl)
theorem dX0_undo_24 : decode cX0_undo 24 = .ok (.iconst 1, 1) := dk_4 (dk_at dksX0_undo_1 0 rfl rfl)
theorem dX0_undo_25 : decode cX0_undo 25 = .ok (.iadd, 1) := dk_96 (dk_at dksX0_undo_1 1 rfl rfl)
theorem dX0_undo_26 : decode cX0_undo 26 = .ok (.putfield 106, 3) := dk_181 0 106 (dk_at dksX0_undo_1 2 rfl rfl)
theorem dX0_undo_29 : decode cX0_undo 29 = .ok (.aload_n 0, 1) := dk_42 (dk_at dksX0_undo_1 5 rfl rfl)
theorem dX0_undo_30 : decode cX0_undo 30 = .ok (.aload_n 0, 1) := dk_42 (dk_at dksX0_undo_1 6 rfl rfl)
theorem dX0_undo_31 : decode cX0_undo 31 = .ok (.getfield 44, 3) := dk_180 0 44 (dk_at dksX0_undo_1 7 rfl rfl)
theorem dX0_undo_34 : decode cX0_undo 34 = .ok (.aload_n 0, 1) := dk_42 (dk_at dksX0_undo_1 10 rfl rfl)
theorem dX0_undo_35 : decode cX0_undo 35 = .ok (.getfield 103, 3) := dk_180 0 103 (dk_at dksX0_undo_1 11 rfl rfl)
theorem dX0_undo_38 : decode cX0_undo 38 = .ok (.aaload, 1) := dk_50 (dk_at dksX0_undo_1 14 rfl rfl)
theorem dX0_undo_39 : decode cX0_undo 39 = .ok (.invokevirtual 251, 3) := dk_182 0 251 (dk_at dksX0_undo_1 15 rfl rfl)
theorem dX0_undo_42 : decode cX0_undo 42 = .ok (.iconst 1, 1) := dk_4 (dk_at dksX0_undo_1 18 rfl rfl)
theorem dX0_undo_43 : decode cX0_undo 43 = .ok (.ireturn, 1) := dk_172 (dk_at dksX0_undo_1 19 rfl rfl)
abbrev cX0_exchange : ByteArray := prog_1_method_19_code
def yX0_exchange : MethodName := ⟨RX0, "exchange", "(LWeatherWages$Plots;)V"⟩
def dkwX0_exchange_1 : List UInt8 := [180, 0, 35, 182, 0, 204, 87, 177]
abbrev dktX0_exchange_1 : List UInt8 := dkwX0_exchange_1 ++ []
def dkwX0_exchange_0 : List UInt8 := [42, 180, 0, 35, 43, 182, 0, 204, 87, 43, 42, 180, 0, 31, 182, 0, 204, 87, 42, 180, 0, 31, 42]
abbrev dktX0_exchange_0 : List UInt8 := dkwX0_exchange_0 ++ dktX0_exchange_1
theorem dksX0_exchange_0 : cX0_exchange.data.toList.drop 0 = dktX0_exchange_0 := by decide +kernel
theorem dksX0_exchange_1 : cX0_exchange.data.toList.drop 23 = dktX0_exchange_1 := dk_seg dksX0_exchange_0 23 rfl rfl
theorem dX0_exchange_0 : decode cX0_exchange 0 = .ok (.aload_n 0, 1) := dk_42 (dk_at dksX0_exchange_0 0 rfl rfl)
theorem dX0_exchange_1 : decode cX0_exchange 1 = .ok (.getfield 35, 3) := dk_180 0 35 (dk_at dksX0_exchange_0 1 rfl rfl)
theorem dX0_exchange_4 : decode cX0_exchange 4 = .ok (.aload_n 1, 1) := dk_43 (dk_at dksX0_exchange_0 4 rfl rfl)
theorem dX0_exchange_5 : decode cX0_exchange 5 = .ok (.invokevirtual 204, 3) := dk_182 0 204 (dk_at dksX0_exchange_0 5 rfl rfl)
theorem dX0_exchange_8 : decode cX0_exchange 8 = .ok (.pop, 1) := dk_87 (dk_at dksX0_exchange_0 8 rfl rfl)
theorem dX0_exchange_9 : decode cX0_exchange 9 = .ok (.aload_n 1, 1) := dk_43 (dk_at dksX0_exchange_0 9 rfl rfl)
theorem dX0_exchange_10 : decode cX0_exchange 10 = .ok (.aload_n 0, 1) := dk_42 (dk_at dksX0_exchange_0 10 rfl rfl)
theorem dX0_exchange_11 : decode cX0_exchange 11 = .ok (.getfield 31, 3) := dk_180 0 31 (dk_at dksX0_exchange_0 11 rfl rfl)
theorem dX0_exchange_14 : decode cX0_exchange 14 = .ok (.invokevirtual 204, 3) := dk_182 0 204 (dk_at dksX0_exchange_0 14 rfl rfl)
theorem dX0_exchange_17 : decode cX0_exchange 17 = .ok (.pop, 1) := dk_87 (dk_at dksX0_exchange_0 17 rfl rfl)
theorem dX0_exchange_18 : decode cX0_exchange 18 = .ok (.aload_n 0, 1) := dk_42 (dk_at dksX0_exchange_0 18 rfl rfl)
theorem dX0_exchange_19 : decode cX0_exchange 19 = .ok (.getfield 31, 3) := dk_180 0 31 (dk_at dksX0_exchange_0 19 rfl rfl)
theorem dX0_exchange_22 : decode cX0_exchange 22 = .ok (.aload_n 0, 1) := dk_42 (dk_at dksX0_exchange_0 22 rfl rfl)
theorem dX0_exchange_23 : decode cX0_exchange 23 = .ok (.getfield 35, 3) := dk_180 0 35 (dk_at dksX0_exchange_1 0 rfl rfl)
theorem dX0_exchange_26 : decode cX0_exchange 26 = .ok (.invokevirtual 204, 3) := dk_182 0 204 (dk_at dksX0_exchange_1 3 rfl rfl)
theorem dX0_exchange_29 : decode cX0_exchange 29 = .ok (.pop, 1) := dk_87 (dk_at dksX0_exchange_1 6 rfl rfl)
theorem dX0_exchange_30 : decode cX0_exchange 30 = .ok (.return_, 1) := dk_177 (dk_at dksX0_exchange_1 7 rfl rfl)
abbrev cX0_redo : ByteArray := prog_1_method_26_code
def yX0_redo : MethodName := ⟨RX0, "redo", "()Z"⟩
def dkwX0_redo_1 : List UInt8 := [180, 0, 103, 4, 96, 181, 0, 103, 42, 89, 180, 0, 106, 4, 100, 181, 0, 106, 4, 172]
abbrev dktX0_redo_1 : List UInt8 := dkwX0_redo_1 ++ []
def dkwX0_redo_0 : List UInt8 := [42, 180, 0, 106, 154, 0, 5, 3, 172, 42, 42, 180, 0, 44, 42, 180, 0, 103, 50, 182, 0, 251, 42, 89]
abbrev dktX0_redo_0 : List UInt8 := dkwX0_redo_0 ++ dktX0_redo_1
theorem dksX0_redo_0 : cX0_redo.data.toList.drop 0 = dktX0_redo_0 := by decide +kernel
theorem dksX0_redo_1 : cX0_redo.data.toList.drop 24 = dktX0_redo_1 := dk_seg dksX0_redo_0 24 rfl rfl
theorem dX0_redo_0 : decode cX0_redo 0 = .ok (.aload_n 0, 1) := dk_42 (dk_at dksX0_redo_0 0 rfl rfl)
theorem dX0_redo_1 : decode cX0_redo 1 = .ok (.getfield 106, 3) := dk_180 0 106 (dk_at dksX0_redo_0 1 rfl rfl)
theorem dX0_redo_4 : decode cX0_redo 4 = .ok (.ifCond .ne 5, 3) := dk_154 0 5 (dk_at dksX0_redo_0 4 rfl rfl)
theorem dX0_redo_7 : decode cX0_redo 7 = .ok (.iconst 0, 1) := dk_3 (dk_at dksX0_redo_0 7 rfl rfl)
theorem dX0_redo_8 : decode cX0_redo 8 = .ok (.ireturn, 1) := dk_172 (dk_at dksX0_redo_0 8 rfl rfl)
theorem dX0_redo_9 : decode cX0_redo 9 = .ok (.aload_n 0, 1) := dk_42 (dk_at dksX0_redo_0 9 rfl rfl)
theorem dX0_redo_10 : decode cX0_redo 10 = .ok (.aload_n 0, 1) := dk_42 (dk_at dksX0_redo_0 10 rfl rfl)
theorem dX0_redo_11 : decode cX0_redo 11 = .ok (.getfield 44, 3) := dk_180 0 44 (dk_at dksX0_redo_0 11 rfl rfl)
theorem dX0_redo_14 : decode cX0_redo 14 = .ok (.aload_n 0, 1) := dk_42 (dk_at dksX0_redo_0 14 rfl rfl)
theorem dX0_redo_15 : decode cX0_redo 15 = .ok (.getfield 103, 3) := dk_180 0 103 (dk_at dksX0_redo_0 15 rfl rfl)
theorem dX0_redo_18 : decode cX0_redo 18 = .ok (.aaload, 1) := dk_50 (dk_at dksX0_redo_0 18 rfl rfl)
theorem dX0_redo_19 : decode cX0_redo 19 = .ok (.invokevirtual 251, 3) := dk_182 0 251 (dk_at dksX0_redo_0 19 rfl rfl)
theorem dX0_redo_22 : decode cX0_redo 22 = .ok (.aload_n 0, 1) := dk_42 (dk_at dksX0_redo_0 22 rfl rfl)
theorem dX0_redo_23 : decode cX0_redo 23 = .ok (.dup, 1) := dk_89 (dk_at dksX0_redo_0 23 rfl rfl)
theorem dX0_redo_24 : decode cX0_redo 24 = .ok (.getfield 103, 3) := dk_180 0 103 (dk_at dksX0_redo_1 0 rfl rfl)
theorem dX0_redo_27 : decode cX0_redo 27 = .ok (.iconst 1, 1) := dk_4 (dk_at dksX0_redo_1 3 rfl rfl)
theorem dX0_redo_28 : decode cX0_redo 28 = .ok (.iadd, 1) := dk_96 (dk_at dksX0_redo_1 4 rfl rfl)
theorem dX0_redo_29 : decode cX0_redo 29 = .ok (.putfield 103, 3) := dk_181 0 103 (dk_at dksX0_redo_1 5 rfl rfl)
theorem dX0_redo_32 : decode cX0_redo 32 = .ok (.aload_n 0, 1) := dk_42 (dk_at dksX0_redo_1 8 rfl rfl)
theorem dX0_redo_33 : decode cX0_redo 33 = .ok (.dup, 1) := dk_89 (dk_at dksX0_redo_1 9 rfl rfl)
theorem dX0_redo_34 : decode cX0_redo 34 = .ok (.getfield 106, 3) := dk_180 0 106 (dk_at dksX0_redo_1 10 rfl rfl)
theorem dX0_redo_37 : decode cX0_redo 37 = .ok (.iconst 1, 1) := dk_4 (dk_at dksX0_redo_1 13 rfl rfl)
theorem dX0_redo_38 : decode cX0_redo 38 = .ok (.isub, 1) := dk_100 (dk_at dksX0_redo_1 14 rfl rfl)
theorem dX0_redo_39 : decode cX0_redo 39 = .ok (.putfield 106, 3) := dk_181 0 106 (dk_at dksX0_redo_1 15 rfl rfl)
theorem dX0_redo_42 : decode cX0_redo 42 = .ok (.iconst 1, 1) := dk_4 (dk_at dksX0_redo_1 18 rfl rfl)
theorem dX0_redo_43 : decode cX0_redo 43 = .ok (.ireturn, 1) := dk_172 (dk_at dksX0_redo_1 19 rfl rfl)
abbrev cX0_best : ByteArray := prog_1_method_34_code
def yX0_best : MethodName := ⟨RX0, "best", "(II)I"⟩
def dkwX0_best_1 : List UInt8 := [172, 42, 42, 180, 0, 31, 27, 3, 182, 1, 30, 42, 28, 182, 1, 34, 172]
abbrev dktX0_best_1 : List UInt8 := dkwX0_best_1 ++ []
def dkwX0_best_0 : List UInt8 := [42, 3, 181, 0, 109, 42, 27, 182, 0, 144, 153, 0, 12, 28, 3, 4, 184, 0, 138, 154, 0, 6, 18, 148]
abbrev dktX0_best_0 : List UInt8 := dkwX0_best_0 ++ dktX0_best_1
theorem dksX0_best_0 : cX0_best.data.toList.drop 0 = dktX0_best_0 := by decide +kernel
theorem dksX0_best_1 : cX0_best.data.toList.drop 24 = dktX0_best_1 := dk_seg dksX0_best_0 24 rfl rfl
theorem dX0_best_0 : decode cX0_best 0 = .ok (.aload_n 0, 1) := dk_42 (dk_at dksX0_best_0 0 rfl rfl)
theorem dX0_best_1 : decode cX0_best 1 = .ok (.iconst 0, 1) := dk_3 (dk_at dksX0_best_0 1 rfl rfl)
theorem dX0_best_2 : decode cX0_best 2 = .ok (.putfield 109, 3) := dk_181 0 109 (dk_at dksX0_best_0 2 rfl rfl)
theorem dX0_best_5 : decode cX0_best 5 = .ok (.aload_n 0, 1) := dk_42 (dk_at dksX0_best_0 5 rfl rfl)
theorem dX0_best_6 : decode cX0_best 6 = .ok (.iload_n 1, 1) := dk_27 (dk_at dksX0_best_0 6 rfl rfl)
theorem dX0_best_7 : decode cX0_best 7 = .ok (.invokevirtual 144, 3) := dk_182 0 144 (dk_at dksX0_best_0 7 rfl rfl)
theorem dX0_best_10 : decode cX0_best 10 = .ok (.ifCond .eq 12, 3) := dk_153 0 12 (dk_at dksX0_best_0 10 rfl rfl)
theorem dX0_best_13 : decode cX0_best 13 = .ok (.iload_n 2, 1) := dk_28 (dk_at dksX0_best_0 13 rfl rfl)
theorem dX0_best_14 : decode cX0_best 14 = .ok (.iconst 0, 1) := dk_3 (dk_at dksX0_best_0 14 rfl rfl)
theorem dX0_best_15 : decode cX0_best 15 = .ok (.iconst 1, 1) := dk_4 (dk_at dksX0_best_0 15 rfl rfl)
theorem dX0_best_16 : decode cX0_best 16 = .ok (.invokestatic 138, 3) := dk_184 0 138 (dk_at dksX0_best_0 16 rfl rfl)
theorem dX0_best_19 : decode cX0_best 19 = .ok (.ifCond .ne 6, 3) := dk_154 0 6 (dk_at dksX0_best_0 19 rfl rfl)
theorem dX0_best_22 : decode cX0_best 22 = .ok (.ldc 148, 2) := dk_18 148 (dk_at dksX0_best_0 22 rfl rfl)
theorem dX0_best_24 : decode cX0_best 24 = .ok (.ireturn, 1) := dk_172 (dk_at dksX0_best_1 0 rfl rfl)
theorem dX0_best_25 : decode cX0_best 25 = .ok (.aload_n 0, 1) := dk_42 (dk_at dksX0_best_1 1 rfl rfl)
theorem dX0_best_26 : decode cX0_best 26 = .ok (.aload_n 0, 1) := dk_42 (dk_at dksX0_best_1 2 rfl rfl)
theorem dX0_best_27 : decode cX0_best 27 = .ok (.getfield 31, 3) := dk_180 0 31 (dk_at dksX0_best_1 3 rfl rfl)
theorem dX0_best_30 : decode cX0_best 30 = .ok (.iload_n 1, 1) := dk_27 (dk_at dksX0_best_1 6 rfl rfl)
theorem dX0_best_31 : decode cX0_best 31 = .ok (.iconst 0, 1) := dk_3 (dk_at dksX0_best_1 7 rfl rfl)
theorem dX0_best_32 : decode cX0_best 32 = .ok (.invokevirtual 286, 3) := dk_182 1 30 (dk_at dksX0_best_1 8 rfl rfl)
theorem dX0_best_35 : decode cX0_best 35 = .ok (.aload_n 0, 1) := dk_42 (dk_at dksX0_best_1 11 rfl rfl)
theorem dX0_best_36 : decode cX0_best 36 = .ok (.iload_n 2, 1) := dk_28 (dk_at dksX0_best_1 12 rfl rfl)
theorem dX0_best_37 : decode cX0_best 37 = .ok (.invokevirtual 290, 3) := dk_182 1 34 (dk_at dksX0_best_1 13 rfl rfl)
theorem dX0_best_40 : decode cX0_best 40 = .ok (.ireturn, 1) := dk_172 (dk_at dksX0_best_1 16 rfl rfl)
abbrev cX0_layBest : ByteArray := prog_1_method_32_code
def yX0_layBest : MethodName := ⟨RX0, "layBest", "(LWeatherWages$Plots;IZ)V"⟩
def dkwX0_layBest_4 : List UInt8 := [182, 1, 27, 54, 5, 167, 255, 179, 177]
abbrev dktX0_layBest_4 : List UInt8 := dkwX0_layBest_4 ++ []
def dkwX0_layBest_3 : List UInt8 := [184, 0, 255, 181, 1, 24, 42, 180, 0, 48, 3, 42, 180, 0, 52, 3, 6, 184, 0, 198, 42, 21, 4]
abbrev dktX0_layBest_3 : List UInt8 := dkwX0_layBest_3 ++ dktX0_layBest_4
def dkwX0_layBest_2 : List UInt8 := [54, 6, 21, 6, 42, 180, 1, 13, 164, 0, 35, 42, 21, 6, 181, 1, 13, 42, 42, 180, 0, 48, 3]
abbrev dktX0_layBest_2 : List UInt8 := dkwX0_layBest_2 ++ dktX0_layBest_3
def dkwX0_layBest_1 : List UInt8 := [153, 0, 78, 42, 43, 28, 182, 1, 16, 153, 0, 13, 42, 43, 28, 29, 182, 1, 20, 167, 0, 5, 18, 148]
abbrev dktX0_layBest_1 : List UInt8 := dkwX0_layBest_1 ++ dktX0_layBest_2
def dkwX0_layBest_0 : List UInt8 := [42, 43, 28, 182, 0, 194, 54, 4, 42, 182, 1, 3, 42, 18, 148, 181, 1, 13, 4, 54, 5, 21, 5]
abbrev dktX0_layBest_0 : List UInt8 := dkwX0_layBest_0 ++ dktX0_layBest_1
theorem dksX0_layBest_0 : cX0_layBest.data.toList.drop 0 = dktX0_layBest_0 := by decide +kernel
theorem dksX0_layBest_1 : cX0_layBest.data.toList.drop 23 = dktX0_layBest_1 := dk_seg dksX0_layBest_0 23 rfl rfl
theorem dksX0_layBest_2 : cX0_layBest.data.toList.drop 47 = dktX0_layBest_2 := dk_seg dksX0_layBest_1 24 rfl rfl
theorem dksX0_layBest_3 : cX0_layBest.data.toList.drop 70 = dktX0_layBest_3 := dk_seg dksX0_layBest_2 23 rfl rfl
theorem dksX0_layBest_4 : cX0_layBest.data.toList.drop 93 = dktX0_layBest_4 := dk_seg dksX0_layBest_3 23 rfl rfl
theorem dX0_layBest_0 : decode cX0_layBest 0 = .ok (.aload_n 0, 1) := dk_42 (dk_at dksX0_layBest_0 0 rfl rfl)
theorem dX0_layBest_1 : decode cX0_layBest 1 = .ok (.aload_n 1, 1) := dk_43 (dk_at dksX0_layBest_0 1 rfl rfl)
theorem dX0_layBest_2 : decode cX0_layBest 2 = .ok (.iload_n 2, 1) := dk_28 (dk_at dksX0_layBest_0 2 rfl rfl)
theorem dX0_layBest_3 : decode cX0_layBest 3 = .ok (.invokevirtual 194, 3) := dk_182 0 194 (dk_at dksX0_layBest_0 3 rfl rfl)
theorem dX0_layBest_6 : decode cX0_layBest 6 = .ok (.istore 4, 2) := dk_54 4 (dk_at dksX0_layBest_0 6 rfl rfl)
theorem dX0_layBest_8 : decode cX0_layBest 8 = .ok (.aload_n 0, 1) := dk_42 (dk_at dksX0_layBest_0 8 rfl rfl)
theorem dX0_layBest_9 : decode cX0_layBest 9 = .ok (.invokevirtual 259, 3) := dk_182 1 3 (dk_at dksX0_layBest_0 9 rfl rfl)
theorem dX0_layBest_12 : decode cX0_layBest 12 = .ok (.aload_n 0, 1) := dk_42 (dk_at dksX0_layBest_0 12 rfl rfl)
theorem dX0_layBest_13 : decode cX0_layBest 13 = .ok (.ldc 148, 2) := dk_18 148 (dk_at dksX0_layBest_0 13 rfl rfl)
theorem dX0_layBest_15 : decode cX0_layBest 15 = .ok (.putfield 269, 3) := dk_181 1 13 (dk_at dksX0_layBest_0 15 rfl rfl)
theorem dX0_layBest_18 : decode cX0_layBest 18 = .ok (.iconst 1, 1) := dk_4 (dk_at dksX0_layBest_0 18 rfl rfl)
theorem dX0_layBest_19 : decode cX0_layBest 19 = .ok (.istore 5, 2) := dk_54 5 (dk_at dksX0_layBest_0 19 rfl rfl)
theorem dX0_layBest_21 : decode cX0_layBest 21 = .ok (.iload 5, 2) := dk_21 5 (dk_at dksX0_layBest_0 21 rfl rfl)
theorem dX0_layBest_23 : decode cX0_layBest 23 = .ok (.ifCond .eq 78, 3) := dk_153 0 78 (dk_at dksX0_layBest_1 0 rfl rfl)
theorem dX0_layBest_26 : decode cX0_layBest 26 = .ok (.aload_n 0, 1) := dk_42 (dk_at dksX0_layBest_1 3 rfl rfl)
theorem dX0_layBest_27 : decode cX0_layBest 27 = .ok (.aload_n 1, 1) := dk_43 (dk_at dksX0_layBest_1 4 rfl rfl)
theorem dX0_layBest_28 : decode cX0_layBest 28 = .ok (.iload_n 2, 1) := dk_28 (dk_at dksX0_layBest_1 5 rfl rfl)
theorem dX0_layBest_29 : decode cX0_layBest 29 = .ok (.invokevirtual 272, 3) := dk_182 1 16 (dk_at dksX0_layBest_1 6 rfl rfl)
theorem dX0_layBest_32 : decode cX0_layBest 32 = .ok (.ifCond .eq 13, 3) := dk_153 0 13 (dk_at dksX0_layBest_1 9 rfl rfl)
theorem dX0_layBest_35 : decode cX0_layBest 35 = .ok (.aload_n 0, 1) := dk_42 (dk_at dksX0_layBest_1 12 rfl rfl)
theorem dX0_layBest_36 : decode cX0_layBest 36 = .ok (.aload_n 1, 1) := dk_43 (dk_at dksX0_layBest_1 13 rfl rfl)
theorem dX0_layBest_37 : decode cX0_layBest 37 = .ok (.iload_n 2, 1) := dk_28 (dk_at dksX0_layBest_1 14 rfl rfl)
theorem dX0_layBest_38 : decode cX0_layBest 38 = .ok (.iload_n 3, 1) := dk_29 (dk_at dksX0_layBest_1 15 rfl rfl)
theorem dX0_layBest_39 : decode cX0_layBest 39 = .ok (.invokevirtual 276, 3) := dk_182 1 20 (dk_at dksX0_layBest_1 16 rfl rfl)
theorem dX0_layBest_42 : decode cX0_layBest 42 = .ok (.goto 5, 3) := dk_167 0 5 (dk_at dksX0_layBest_1 19 rfl rfl)
theorem dX0_layBest_45 : decode cX0_layBest 45 = .ok (.ldc 148, 2) := dk_18 148 (dk_at dksX0_layBest_1 22 rfl rfl)
theorem dX0_layBest_47 : decode cX0_layBest 47 = .ok (.istore 6, 2) := dk_54 6 (dk_at dksX0_layBest_2 0 rfl rfl)
theorem dX0_layBest_49 : decode cX0_layBest 49 = .ok (.iload 6, 2) := dk_21 6 (dk_at dksX0_layBest_2 2 rfl rfl)
theorem dX0_layBest_51 : decode cX0_layBest 51 = .ok (.aload_n 0, 1) := dk_42 (dk_at dksX0_layBest_2 4 rfl rfl)
theorem dX0_layBest_52 : decode cX0_layBest 52 = .ok (.getfield 269, 3) := dk_180 1 13 (dk_at dksX0_layBest_2 5 rfl rfl)
theorem dX0_layBest_55 : decode cX0_layBest 55 = .ok (.if_icmp .le 35, 3) := dk_164 0 35 (dk_at dksX0_layBest_2 8 rfl rfl)
theorem dX0_layBest_58 : decode cX0_layBest 58 = .ok (.aload_n 0, 1) := dk_42 (dk_at dksX0_layBest_2 11 rfl rfl)
theorem dX0_layBest_59 : decode cX0_layBest 59 = .ok (.iload 6, 2) := dk_21 6 (dk_at dksX0_layBest_2 12 rfl rfl)
theorem dX0_layBest_61 : decode cX0_layBest 61 = .ok (.putfield 269, 3) := dk_181 1 13 (dk_at dksX0_layBest_2 14 rfl rfl)
theorem dX0_layBest_64 : decode cX0_layBest 64 = .ok (.aload_n 0, 1) := dk_42 (dk_at dksX0_layBest_2 17 rfl rfl)
theorem dX0_layBest_65 : decode cX0_layBest 65 = .ok (.aload_n 0, 1) := dk_42 (dk_at dksX0_layBest_2 18 rfl rfl)
theorem dX0_layBest_66 : decode cX0_layBest 66 = .ok (.getfield 48, 3) := dk_180 0 48 (dk_at dksX0_layBest_2 19 rfl rfl)
theorem dX0_layBest_69 : decode cX0_layBest 69 = .ok (.iconst 0, 1) := dk_3 (dk_at dksX0_layBest_2 22 rfl rfl)
theorem dX0_layBest_70 : decode cX0_layBest 70 = .ok (.invokestatic 255, 3) := dk_184 0 255 (dk_at dksX0_layBest_3 0 rfl rfl)
theorem dX0_layBest_73 : decode cX0_layBest 73 = .ok (.putfield 280, 3) := dk_181 1 24 (dk_at dksX0_layBest_3 3 rfl rfl)
theorem dX0_layBest_76 : decode cX0_layBest 76 = .ok (.aload_n 0, 1) := dk_42 (dk_at dksX0_layBest_3 6 rfl rfl)
theorem dX0_layBest_77 : decode cX0_layBest 77 = .ok (.getfield 48, 3) := dk_180 0 48 (dk_at dksX0_layBest_3 7 rfl rfl)
theorem dX0_layBest_80 : decode cX0_layBest 80 = .ok (.iconst 0, 1) := dk_3 (dk_at dksX0_layBest_3 10 rfl rfl)
theorem dX0_layBest_81 : decode cX0_layBest 81 = .ok (.aload_n 0, 1) := dk_42 (dk_at dksX0_layBest_3 11 rfl rfl)
theorem dX0_layBest_82 : decode cX0_layBest 82 = .ok (.getfield 52, 3) := dk_180 0 52 (dk_at dksX0_layBest_3 12 rfl rfl)
theorem dX0_layBest_85 : decode cX0_layBest 85 = .ok (.iconst 0, 1) := dk_3 (dk_at dksX0_layBest_3 15 rfl rfl)
theorem dX0_layBest_86 : decode cX0_layBest 86 = .ok (.iconst 3, 1) := dk_6 (dk_at dksX0_layBest_3 16 rfl rfl)
theorem dX0_layBest_87 : decode cX0_layBest 87 = .ok (.invokestatic 198, 3) := dk_184 0 198 (dk_at dksX0_layBest_3 17 rfl rfl)
theorem dX0_layBest_90 : decode cX0_layBest 90 = .ok (.aload_n 0, 1) := dk_42 (dk_at dksX0_layBest_3 20 rfl rfl)
theorem dX0_layBest_91 : decode cX0_layBest 91 = .ok (.iload 4, 2) := dk_21 4 (dk_at dksX0_layBest_3 21 rfl rfl)
theorem dX0_layBest_93 : decode cX0_layBest 93 = .ok (.invokevirtual 283, 3) := dk_182 1 27 (dk_at dksX0_layBest_4 0 rfl rfl)
theorem dX0_layBest_96 : decode cX0_layBest 96 = .ok (.istore 5, 2) := dk_54 5 (dk_at dksX0_layBest_4 3 rfl rfl)
theorem dX0_layBest_98 : decode cX0_layBest 98 = .ok (.goto (-77), 3) := dk_167 255 179 (dk_at dksX0_layBest_4 5 rfl rfl)
theorem dX0_layBest_101 : decode cX0_layBest 101 = .ok (.return_, 1) := dk_177 (dk_at dksX0_layBest_4 8 rfl rfl)
abbrev cX0_clearRow : ByteArray := prog_1_method_28_code
def yX0_clearRow : MethodName := ⟨RX0, "clearRow", "()V"⟩
def dkwX0_clearRow_0 : List UInt8 := [3, 60, 27, 6, 162, 0, 16, 42, 180, 0, 48, 27, 3, 79, 132, 1, 1, 167, 255, 241, 177]
abbrev dktX0_clearRow_0 : List UInt8 := dkwX0_clearRow_0 ++ []
theorem dksX0_clearRow_0 : cX0_clearRow.data.toList.drop 0 = dktX0_clearRow_0 := by decide +kernel
theorem dX0_clearRow_0 : decode cX0_clearRow 0 = .ok (.iconst 0, 1) := dk_3 (dk_at dksX0_clearRow_0 0 rfl rfl)
theorem dX0_clearRow_1 : decode cX0_clearRow 1 = .ok (.istore_n 1, 1) := dk_60 (dk_at dksX0_clearRow_0 1 rfl rfl)
theorem dX0_clearRow_2 : decode cX0_clearRow 2 = .ok (.iload_n 1, 1) := dk_27 (dk_at dksX0_clearRow_0 2 rfl rfl)
theorem dX0_clearRow_3 : decode cX0_clearRow 3 = .ok (.iconst 3, 1) := dk_6 (dk_at dksX0_clearRow_0 3 rfl rfl)
theorem dX0_clearRow_4 : decode cX0_clearRow 4 = .ok (.if_icmp .ge 16, 3) := dk_162 0 16 (dk_at dksX0_clearRow_0 4 rfl rfl)
theorem dX0_clearRow_7 : decode cX0_clearRow 7 = .ok (.aload_n 0, 1) := dk_42 (dk_at dksX0_clearRow_0 7 rfl rfl)
theorem dX0_clearRow_8 : decode cX0_clearRow 8 = .ok (.getfield 48, 3) := dk_180 0 48 (dk_at dksX0_clearRow_0 8 rfl rfl)
theorem dX0_clearRow_11 : decode cX0_clearRow 11 = .ok (.iload_n 1, 1) := dk_27 (dk_at dksX0_clearRow_0 11 rfl rfl)
theorem dX0_clearRow_12 : decode cX0_clearRow 12 = .ok (.iconst 0, 1) := dk_3 (dk_at dksX0_clearRow_0 12 rfl rfl)
theorem dX0_clearRow_13 : decode cX0_clearRow 13 = .ok (.iastore, 1) := dk_79 (dk_at dksX0_clearRow_0 13 rfl rfl)
theorem dX0_clearRow_14 : decode cX0_clearRow 14 = .ok (.iinc 1 1, 3) := dk_132 1 1 (dk_at dksX0_clearRow_0 14 rfl rfl)
theorem dX0_clearRow_17 : decode cX0_clearRow 17 = .ok (.goto (-15), 3) := dk_167 255 241 (dk_at dksX0_clearRow_0 17 rfl rfl)
theorem dX0_clearRow_20 : decode cX0_clearRow 20 = .ok (.return_, 1) := dk_177 (dk_at dksX0_clearRow_0 20 rfl rfl)
abbrev cX0_isRowOf : ByteArray := prog_1_method_30_code
def yX0_isRowOf : MethodName := ⟨RX0, "isRowOf", "(LWeatherWages$Plots;I)Z"⟩
def dkwX0_isRowOf_1 : List UInt8 := [21, 4, 182, 0, 182, 163, 0, 7, 4, 167, 0, 4, 3, 62, 132, 4, 1, 167, 255, 220, 29, 172]
abbrev dktX0_isRowOf_1 : List UInt8 := dkwX0_isRowOf_1 ++ []
def dkwX0_isRowOf_0 : List UInt8 := [4, 62, 3, 54, 4, 21, 4, 6, 162, 0, 36, 29, 153, 0, 24, 42, 180, 0, 48, 21, 4, 46, 43, 28]
abbrev dktX0_isRowOf_0 : List UInt8 := dkwX0_isRowOf_0 ++ dktX0_isRowOf_1
theorem dksX0_isRowOf_0 : cX0_isRowOf.data.toList.drop 0 = dktX0_isRowOf_0 := by decide +kernel
theorem dksX0_isRowOf_1 : cX0_isRowOf.data.toList.drop 24 = dktX0_isRowOf_1 := dk_seg dksX0_isRowOf_0 24 rfl rfl
theorem dX0_isRowOf_0 : decode cX0_isRowOf 0 = .ok (.iconst 1, 1) := dk_4 (dk_at dksX0_isRowOf_0 0 rfl rfl)
theorem dX0_isRowOf_1 : decode cX0_isRowOf 1 = .ok (.istore_n 3, 1) := dk_62 (dk_at dksX0_isRowOf_0 1 rfl rfl)
theorem dX0_isRowOf_2 : decode cX0_isRowOf 2 = .ok (.iconst 0, 1) := dk_3 (dk_at dksX0_isRowOf_0 2 rfl rfl)
theorem dX0_isRowOf_3 : decode cX0_isRowOf 3 = .ok (.istore 4, 2) := dk_54 4 (dk_at dksX0_isRowOf_0 3 rfl rfl)
theorem dX0_isRowOf_5 : decode cX0_isRowOf 5 = .ok (.iload 4, 2) := dk_21 4 (dk_at dksX0_isRowOf_0 5 rfl rfl)
theorem dX0_isRowOf_7 : decode cX0_isRowOf 7 = .ok (.iconst 3, 1) := dk_6 (dk_at dksX0_isRowOf_0 7 rfl rfl)
theorem dX0_isRowOf_8 : decode cX0_isRowOf 8 = .ok (.if_icmp .ge 36, 3) := dk_162 0 36 (dk_at dksX0_isRowOf_0 8 rfl rfl)
theorem dX0_isRowOf_11 : decode cX0_isRowOf 11 = .ok (.iload_n 3, 1) := dk_29 (dk_at dksX0_isRowOf_0 11 rfl rfl)
theorem dX0_isRowOf_12 : decode cX0_isRowOf 12 = .ok (.ifCond .eq 24, 3) := dk_153 0 24 (dk_at dksX0_isRowOf_0 12 rfl rfl)
theorem dX0_isRowOf_15 : decode cX0_isRowOf 15 = .ok (.aload_n 0, 1) := dk_42 (dk_at dksX0_isRowOf_0 15 rfl rfl)
theorem dX0_isRowOf_16 : decode cX0_isRowOf 16 = .ok (.getfield 48, 3) := dk_180 0 48 (dk_at dksX0_isRowOf_0 16 rfl rfl)
theorem dX0_isRowOf_19 : decode cX0_isRowOf 19 = .ok (.iload 4, 2) := dk_21 4 (dk_at dksX0_isRowOf_0 19 rfl rfl)
theorem dX0_isRowOf_21 : decode cX0_isRowOf 21 = .ok (.iaload, 1) := dk_46 (dk_at dksX0_isRowOf_0 21 rfl rfl)
theorem dX0_isRowOf_22 : decode cX0_isRowOf 22 = .ok (.aload_n 1, 1) := dk_43 (dk_at dksX0_isRowOf_0 22 rfl rfl)
theorem dX0_isRowOf_23 : decode cX0_isRowOf 23 = .ok (.iload_n 2, 1) := dk_28 (dk_at dksX0_isRowOf_0 23 rfl rfl)
theorem dX0_isRowOf_24 : decode cX0_isRowOf 24 = .ok (.iload 4, 2) := dk_21 4 (dk_at dksX0_isRowOf_1 0 rfl rfl)
theorem dX0_isRowOf_26 : decode cX0_isRowOf 26 = .ok (.invokevirtual 182, 3) := dk_182 0 182 (dk_at dksX0_isRowOf_1 2 rfl rfl)
theorem dX0_isRowOf_29 : decode cX0_isRowOf 29 = .ok (.if_icmp .gt 7, 3) := dk_163 0 7 (dk_at dksX0_isRowOf_1 5 rfl rfl)
theorem dX0_isRowOf_32 : decode cX0_isRowOf 32 = .ok (.iconst 1, 1) := dk_4 (dk_at dksX0_isRowOf_1 8 rfl rfl)
theorem dX0_isRowOf_33 : decode cX0_isRowOf 33 = .ok (.goto 4, 3) := dk_167 0 4 (dk_at dksX0_isRowOf_1 9 rfl rfl)
theorem dX0_isRowOf_36 : decode cX0_isRowOf 36 = .ok (.iconst 0, 1) := dk_3 (dk_at dksX0_isRowOf_1 12 rfl rfl)
theorem dX0_isRowOf_37 : decode cX0_isRowOf 37 = .ok (.istore_n 3, 1) := dk_62 (dk_at dksX0_isRowOf_1 13 rfl rfl)
theorem dX0_isRowOf_38 : decode cX0_isRowOf 38 = .ok (.iinc 4 1, 3) := dk_132 4 1 (dk_at dksX0_isRowOf_1 14 rfl rfl)
theorem dX0_isRowOf_41 : decode cX0_isRowOf 41 = .ok (.goto (-36), 3) := dk_167 255 220 (dk_at dksX0_isRowOf_1 17 rfl rfl)
theorem dX0_isRowOf_44 : decode cX0_isRowOf 44 = .ok (.iload_n 3, 1) := dk_29 (dk_at dksX0_isRowOf_1 20 rfl rfl)
theorem dX0_isRowOf_45 : decode cX0_isRowOf 45 = .ok (.ireturn, 1) := dk_172 (dk_at dksX0_isRowOf_1 21 rfl rfl)
abbrev cX0_growthBy : ByteArray := prog_1_method_31_code
def yX0_growthBy : MethodName := ⟨RX0, "growthBy", "(LWeatherWages$Plots;IZ)I"⟩
def dkwX0_growthBy_2 : List UInt8 := [180, 0, 20, 28, 182, 0, 161, 172]
abbrev dktX0_growthBy_2 : List UInt8 := dkwX0_growthBy_2 ++ []
def dkwX0_growthBy_1 : List UInt8 := [153, 0, 17, 42, 180, 0, 38, 42, 180, 0, 20, 182, 1, 10, 167, 0, 15, 42, 180, 0, 38, 42]
abbrev dktX0_growthBy_1 : List UInt8 := dkwX0_growthBy_1 ++ dktX0_growthBy_2
def dkwX0_growthBy_0 : List UInt8 := [42, 180, 0, 38, 43, 182, 0, 204, 42, 180, 0, 20, 28, 42, 180, 0, 48, 3, 182, 1, 6, 87, 29]
abbrev dktX0_growthBy_0 : List UInt8 := dkwX0_growthBy_0 ++ dktX0_growthBy_1
theorem dksX0_growthBy_0 : cX0_growthBy.data.toList.drop 0 = dktX0_growthBy_0 := by decide +kernel
theorem dksX0_growthBy_1 : cX0_growthBy.data.toList.drop 23 = dktX0_growthBy_1 := dk_seg dksX0_growthBy_0 23 rfl rfl
theorem dksX0_growthBy_2 : cX0_growthBy.data.toList.drop 45 = dktX0_growthBy_2 := dk_seg dksX0_growthBy_1 22 rfl rfl
theorem dX0_growthBy_0 : decode cX0_growthBy 0 = .ok (.aload_n 0, 1) := dk_42 (dk_at dksX0_growthBy_0 0 rfl rfl)
theorem dX0_growthBy_1 : decode cX0_growthBy 1 = .ok (.getfield 38, 3) := dk_180 0 38 (dk_at dksX0_growthBy_0 1 rfl rfl)
theorem dX0_growthBy_4 : decode cX0_growthBy 4 = .ok (.aload_n 1, 1) := dk_43 (dk_at dksX0_growthBy_0 4 rfl rfl)
theorem dX0_growthBy_5 : decode cX0_growthBy 5 = .ok (.invokevirtual 204, 3) := dk_182 0 204 (dk_at dksX0_growthBy_0 5 rfl rfl)
theorem dX0_growthBy_8 : decode cX0_growthBy 8 = .ok (.aload_n 0, 1) := dk_42 (dk_at dksX0_growthBy_0 8 rfl rfl)
theorem dX0_growthBy_9 : decode cX0_growthBy 9 = .ok (.getfield 20, 3) := dk_180 0 20 (dk_at dksX0_growthBy_0 9 rfl rfl)
theorem dX0_growthBy_12 : decode cX0_growthBy 12 = .ok (.iload_n 2, 1) := dk_28 (dk_at dksX0_growthBy_0 12 rfl rfl)
theorem dX0_growthBy_13 : decode cX0_growthBy 13 = .ok (.aload_n 0, 1) := dk_42 (dk_at dksX0_growthBy_0 13 rfl rfl)
theorem dX0_growthBy_14 : decode cX0_growthBy 14 = .ok (.getfield 48, 3) := dk_180 0 48 (dk_at dksX0_growthBy_0 14 rfl rfl)
theorem dX0_growthBy_17 : decode cX0_growthBy 17 = .ok (.iconst 0, 1) := dk_3 (dk_at dksX0_growthBy_0 17 rfl rfl)
theorem dX0_growthBy_18 : decode cX0_growthBy 18 = .ok (.invokevirtual 262, 3) := dk_182 1 6 (dk_at dksX0_growthBy_0 18 rfl rfl)
theorem dX0_growthBy_21 : decode cX0_growthBy 21 = .ok (.pop, 1) := dk_87 (dk_at dksX0_growthBy_0 21 rfl rfl)
theorem dX0_growthBy_22 : decode cX0_growthBy 22 = .ok (.iload_n 3, 1) := dk_29 (dk_at dksX0_growthBy_0 22 rfl rfl)
theorem dX0_growthBy_23 : decode cX0_growthBy 23 = .ok (.ifCond .eq 17, 3) := dk_153 0 17 (dk_at dksX0_growthBy_1 0 rfl rfl)
theorem dX0_growthBy_26 : decode cX0_growthBy 26 = .ok (.aload_n 0, 1) := dk_42 (dk_at dksX0_growthBy_1 3 rfl rfl)
theorem dX0_growthBy_27 : decode cX0_growthBy 27 = .ok (.getfield 38, 3) := dk_180 0 38 (dk_at dksX0_growthBy_1 4 rfl rfl)
theorem dX0_growthBy_30 : decode cX0_growthBy 30 = .ok (.aload_n 0, 1) := dk_42 (dk_at dksX0_growthBy_1 7 rfl rfl)
theorem dX0_growthBy_31 : decode cX0_growthBy 31 = .ok (.getfield 20, 3) := dk_180 0 20 (dk_at dksX0_growthBy_1 8 rfl rfl)
theorem dX0_growthBy_34 : decode cX0_growthBy 34 = .ok (.invokevirtual 266, 3) := dk_182 1 10 (dk_at dksX0_growthBy_1 11 rfl rfl)
theorem dX0_growthBy_37 : decode cX0_growthBy 37 = .ok (.goto 15, 3) := dk_167 0 15 (dk_at dksX0_growthBy_1 14 rfl rfl)
theorem dX0_growthBy_40 : decode cX0_growthBy 40 = .ok (.aload_n 0, 1) := dk_42 (dk_at dksX0_growthBy_1 17 rfl rfl)
theorem dX0_growthBy_41 : decode cX0_growthBy 41 = .ok (.getfield 38, 3) := dk_180 0 38 (dk_at dksX0_growthBy_1 18 rfl rfl)
theorem dX0_growthBy_44 : decode cX0_growthBy 44 = .ok (.aload_n 0, 1) := dk_42 (dk_at dksX0_growthBy_1 21 rfl rfl)
theorem dX0_growthBy_45 : decode cX0_growthBy 45 = .ok (.getfield 20, 3) := dk_180 0 20 (dk_at dksX0_growthBy_2 0 rfl rfl)
theorem dX0_growthBy_48 : decode cX0_growthBy 48 = .ok (.iload_n 2, 1) := dk_28 (dk_at dksX0_growthBy_2 3 rfl rfl)
theorem dX0_growthBy_49 : decode cX0_growthBy 49 = .ok (.invokevirtual 161, 3) := dk_182 0 161 (dk_at dksX0_growthBy_2 4 rfl rfl)
theorem dX0_growthBy_52 : decode cX0_growthBy 52 = .ok (.ireturn, 1) := dk_172 (dk_at dksX0_growthBy_2 7 rfl rfl)
abbrev cX0_sum : ByteArray := prog_1_method_27_code
def yX0_sum : MethodName := ⟨RX0, "sum", "([II)I"⟩
def dkwX0_sum_0 : List UInt8 := [42, 27, 46, 42, 27, 4, 96, 46, 96, 42, 27, 5, 96, 46, 96, 172]
abbrev dktX0_sum_0 : List UInt8 := dkwX0_sum_0 ++ []
theorem dksX0_sum_0 : cX0_sum.data.toList.drop 0 = dktX0_sum_0 := by decide +kernel
theorem dX0_sum_0 : decode cX0_sum 0 = .ok (.aload_n 0, 1) := dk_42 (dk_at dksX0_sum_0 0 rfl rfl)
theorem dX0_sum_1 : decode cX0_sum 1 = .ok (.iload_n 1, 1) := dk_27 (dk_at dksX0_sum_0 1 rfl rfl)
theorem dX0_sum_2 : decode cX0_sum 2 = .ok (.iaload, 1) := dk_46 (dk_at dksX0_sum_0 2 rfl rfl)
theorem dX0_sum_3 : decode cX0_sum 3 = .ok (.aload_n 0, 1) := dk_42 (dk_at dksX0_sum_0 3 rfl rfl)
theorem dX0_sum_4 : decode cX0_sum 4 = .ok (.iload_n 1, 1) := dk_27 (dk_at dksX0_sum_0 4 rfl rfl)
theorem dX0_sum_5 : decode cX0_sum 5 = .ok (.iconst 1, 1) := dk_4 (dk_at dksX0_sum_0 5 rfl rfl)
theorem dX0_sum_6 : decode cX0_sum 6 = .ok (.iadd, 1) := dk_96 (dk_at dksX0_sum_0 6 rfl rfl)
theorem dX0_sum_7 : decode cX0_sum 7 = .ok (.iaload, 1) := dk_46 (dk_at dksX0_sum_0 7 rfl rfl)
theorem dX0_sum_8 : decode cX0_sum 8 = .ok (.iadd, 1) := dk_96 (dk_at dksX0_sum_0 8 rfl rfl)
theorem dX0_sum_9 : decode cX0_sum 9 = .ok (.aload_n 0, 1) := dk_42 (dk_at dksX0_sum_0 9 rfl rfl)
theorem dX0_sum_10 : decode cX0_sum 10 = .ok (.iload_n 1, 1) := dk_27 (dk_at dksX0_sum_0 10 rfl rfl)
theorem dX0_sum_11 : decode cX0_sum 11 = .ok (.iconst 2, 1) := dk_5 (dk_at dksX0_sum_0 11 rfl rfl)
theorem dX0_sum_12 : decode cX0_sum 12 = .ok (.iadd, 1) := dk_96 (dk_at dksX0_sum_0 12 rfl rfl)
theorem dX0_sum_13 : decode cX0_sum 13 = .ok (.iaload, 1) := dk_46 (dk_at dksX0_sum_0 13 rfl rfl)
theorem dX0_sum_14 : decode cX0_sum 14 = .ok (.iadd, 1) := dk_96 (dk_at dksX0_sum_0 14 rfl rfl)
theorem dX0_sum_15 : decode cX0_sum 15 = .ok (.ireturn, 1) := dk_172 (dk_at dksX0_sum_0 15 rfl rfl)
abbrev cX0_nextRow : ByteArray := prog_1_method_29_code
def yX0_nextRow : MethodName := ⟨RX0, "nextRow", "(I)Z"⟩
def dkwX0_nextRow_4 : List UInt8 := [4, 100, 92, 46, 4, 96, 79, 42, 180, 0, 48, 28, 21, 5, 79, 4, 172]
abbrev dktX0_nextRow_4 : List UInt8 := dkwX0_nextRow_4 ++ []
def dkwX0_nextRow_3 : List UInt8 := [3, 172, 42, 180, 0, 48, 29, 46, 4, 100, 54, 5, 42, 180, 0, 48, 29, 3, 79, 42, 180, 0, 48, 29]
abbrev dktX0_nextRow_3 : List UInt8 := dkwX0_nextRow_3 ++ dktX0_nextRow_4
def dkwX0_nextRow_2 : List UInt8 := [42, 182, 1, 3, 42, 180, 0, 48, 28, 21, 4, 4, 96, 79, 21, 4, 27, 162, 0, 7, 4, 167, 0, 4]
abbrev dktX0_nextRow_2 : List UInt8 := dkwX0_nextRow_2 ++ dktX0_nextRow_3
def dkwX0_nextRow_1 : List UInt8 := [172, 29, 158, 0, 18, 42, 180, 0, 48, 29, 46, 154, 0, 9, 132, 3, 255, 167, 255, 240, 29, 154, 0, 29]
abbrev dktX0_nextRow_1 : List UInt8 := dkwX0_nextRow_1 ++ dktX0_nextRow_2
def dkwX0_nextRow_0 : List UInt8 := [42, 182, 0, 142, 4, 100, 61, 28, 62, 42, 180, 0, 48, 3, 184, 0, 255, 54, 4, 28, 156, 0, 5, 3]
abbrev dktX0_nextRow_0 : List UInt8 := dkwX0_nextRow_0 ++ dktX0_nextRow_1
theorem dksX0_nextRow_0 : cX0_nextRow.data.toList.drop 0 = dktX0_nextRow_0 := by decide +kernel
theorem dksX0_nextRow_1 : cX0_nextRow.data.toList.drop 24 = dktX0_nextRow_1 := dk_seg dksX0_nextRow_0 24 rfl rfl
theorem dksX0_nextRow_2 : cX0_nextRow.data.toList.drop 48 = dktX0_nextRow_2 := dk_seg dksX0_nextRow_1 24 rfl rfl
theorem dksX0_nextRow_3 : cX0_nextRow.data.toList.drop 72 = dktX0_nextRow_3 := dk_seg dksX0_nextRow_2 24 rfl rfl
theorem dksX0_nextRow_4 : cX0_nextRow.data.toList.drop 96 = dktX0_nextRow_4 := dk_seg dksX0_nextRow_3 24 rfl rfl
theorem dX0_nextRow_0 : decode cX0_nextRow 0 = .ok (.aload_n 0, 1) := dk_42 (dk_at dksX0_nextRow_0 0 rfl rfl)
theorem dX0_nextRow_1 : decode cX0_nextRow 1 = .ok (.invokevirtual 142, 3) := dk_182 0 142 (dk_at dksX0_nextRow_0 1 rfl rfl)
theorem dX0_nextRow_4 : decode cX0_nextRow 4 = .ok (.iconst 1, 1) := dk_4 (dk_at dksX0_nextRow_0 4 rfl rfl)
theorem dX0_nextRow_5 : decode cX0_nextRow 5 = .ok (.isub, 1) := dk_100 (dk_at dksX0_nextRow_0 5 rfl rfl)
theorem dX0_nextRow_6 : decode cX0_nextRow 6 = .ok (.istore_n 2, 1) := dk_61 (dk_at dksX0_nextRow_0 6 rfl rfl)
theorem dX0_nextRow_7 : decode cX0_nextRow 7 = .ok (.iload_n 2, 1) := dk_28 (dk_at dksX0_nextRow_0 7 rfl rfl)
theorem dX0_nextRow_8 : decode cX0_nextRow 8 = .ok (.istore_n 3, 1) := dk_62 (dk_at dksX0_nextRow_0 8 rfl rfl)
theorem dX0_nextRow_9 : decode cX0_nextRow 9 = .ok (.aload_n 0, 1) := dk_42 (dk_at dksX0_nextRow_0 9 rfl rfl)
theorem dX0_nextRow_10 : decode cX0_nextRow 10 = .ok (.getfield 48, 3) := dk_180 0 48 (dk_at dksX0_nextRow_0 10 rfl rfl)
theorem dX0_nextRow_13 : decode cX0_nextRow 13 = .ok (.iconst 0, 1) := dk_3 (dk_at dksX0_nextRow_0 13 rfl rfl)
theorem dX0_nextRow_14 : decode cX0_nextRow 14 = .ok (.invokestatic 255, 3) := dk_184 0 255 (dk_at dksX0_nextRow_0 14 rfl rfl)
theorem dX0_nextRow_17 : decode cX0_nextRow 17 = .ok (.istore 4, 2) := dk_54 4 (dk_at dksX0_nextRow_0 17 rfl rfl)
theorem dX0_nextRow_19 : decode cX0_nextRow 19 = .ok (.iload_n 2, 1) := dk_28 (dk_at dksX0_nextRow_0 19 rfl rfl)
theorem dX0_nextRow_20 : decode cX0_nextRow 20 = .ok (.ifCond .ge 5, 3) := dk_156 0 5 (dk_at dksX0_nextRow_0 20 rfl rfl)
theorem dX0_nextRow_23 : decode cX0_nextRow 23 = .ok (.iconst 0, 1) := dk_3 (dk_at dksX0_nextRow_0 23 rfl rfl)
theorem dX0_nextRow_24 : decode cX0_nextRow 24 = .ok (.ireturn, 1) := dk_172 (dk_at dksX0_nextRow_1 0 rfl rfl)
theorem dX0_nextRow_25 : decode cX0_nextRow 25 = .ok (.iload_n 3, 1) := dk_29 (dk_at dksX0_nextRow_1 1 rfl rfl)
theorem dX0_nextRow_26 : decode cX0_nextRow 26 = .ok (.ifCond .le 18, 3) := dk_158 0 18 (dk_at dksX0_nextRow_1 2 rfl rfl)
theorem dX0_nextRow_29 : decode cX0_nextRow 29 = .ok (.aload_n 0, 1) := dk_42 (dk_at dksX0_nextRow_1 5 rfl rfl)
theorem dX0_nextRow_30 : decode cX0_nextRow 30 = .ok (.getfield 48, 3) := dk_180 0 48 (dk_at dksX0_nextRow_1 6 rfl rfl)
theorem dX0_nextRow_33 : decode cX0_nextRow 33 = .ok (.iload_n 3, 1) := dk_29 (dk_at dksX0_nextRow_1 9 rfl rfl)
theorem dX0_nextRow_34 : decode cX0_nextRow 34 = .ok (.iaload, 1) := dk_46 (dk_at dksX0_nextRow_1 10 rfl rfl)
theorem dX0_nextRow_35 : decode cX0_nextRow 35 = .ok (.ifCond .ne 9, 3) := dk_154 0 9 (dk_at dksX0_nextRow_1 11 rfl rfl)
theorem dX0_nextRow_38 : decode cX0_nextRow 38 = .ok (.iinc 3 (-1), 3) := dk_132 3 255 (dk_at dksX0_nextRow_1 14 rfl rfl)
theorem dX0_nextRow_41 : decode cX0_nextRow 41 = .ok (.goto (-16), 3) := dk_167 255 240 (dk_at dksX0_nextRow_1 17 rfl rfl)
theorem dX0_nextRow_44 : decode cX0_nextRow 44 = .ok (.iload_n 3, 1) := dk_29 (dk_at dksX0_nextRow_1 20 rfl rfl)
theorem dX0_nextRow_45 : decode cX0_nextRow 45 = .ok (.ifCond .ne 29, 3) := dk_154 0 29 (dk_at dksX0_nextRow_1 21 rfl rfl)
theorem dX0_nextRow_48 : decode cX0_nextRow 48 = .ok (.aload_n 0, 1) := dk_42 (dk_at dksX0_nextRow_2 0 rfl rfl)
theorem dX0_nextRow_49 : decode cX0_nextRow 49 = .ok (.invokevirtual 259, 3) := dk_182 1 3 (dk_at dksX0_nextRow_2 1 rfl rfl)
theorem dX0_nextRow_52 : decode cX0_nextRow 52 = .ok (.aload_n 0, 1) := dk_42 (dk_at dksX0_nextRow_2 4 rfl rfl)
theorem dX0_nextRow_53 : decode cX0_nextRow 53 = .ok (.getfield 48, 3) := dk_180 0 48 (dk_at dksX0_nextRow_2 5 rfl rfl)
theorem dX0_nextRow_56 : decode cX0_nextRow 56 = .ok (.iload_n 2, 1) := dk_28 (dk_at dksX0_nextRow_2 8 rfl rfl)
theorem dX0_nextRow_57 : decode cX0_nextRow 57 = .ok (.iload 4, 2) := dk_21 4 (dk_at dksX0_nextRow_2 9 rfl rfl)
theorem dX0_nextRow_59 : decode cX0_nextRow 59 = .ok (.iconst 1, 1) := dk_4 (dk_at dksX0_nextRow_2 11 rfl rfl)
theorem dX0_nextRow_60 : decode cX0_nextRow 60 = .ok (.iadd, 1) := dk_96 (dk_at dksX0_nextRow_2 12 rfl rfl)
theorem dX0_nextRow_61 : decode cX0_nextRow 61 = .ok (.iastore, 1) := dk_79 (dk_at dksX0_nextRow_2 13 rfl rfl)
theorem dX0_nextRow_62 : decode cX0_nextRow 62 = .ok (.iload 4, 2) := dk_21 4 (dk_at dksX0_nextRow_2 14 rfl rfl)
theorem dX0_nextRow_64 : decode cX0_nextRow 64 = .ok (.iload_n 1, 1) := dk_27 (dk_at dksX0_nextRow_2 16 rfl rfl)
theorem dX0_nextRow_65 : decode cX0_nextRow 65 = .ok (.if_icmp .ge 7, 3) := dk_162 0 7 (dk_at dksX0_nextRow_2 17 rfl rfl)
theorem dX0_nextRow_68 : decode cX0_nextRow 68 = .ok (.iconst 1, 1) := dk_4 (dk_at dksX0_nextRow_2 20 rfl rfl)
theorem dX0_nextRow_69 : decode cX0_nextRow 69 = .ok (.goto 4, 3) := dk_167 0 4 (dk_at dksX0_nextRow_2 21 rfl rfl)
theorem dX0_nextRow_72 : decode cX0_nextRow 72 = .ok (.iconst 0, 1) := dk_3 (dk_at dksX0_nextRow_3 0 rfl rfl)
theorem dX0_nextRow_73 : decode cX0_nextRow 73 = .ok (.ireturn, 1) := dk_172 (dk_at dksX0_nextRow_3 1 rfl rfl)
theorem dX0_nextRow_74 : decode cX0_nextRow 74 = .ok (.aload_n 0, 1) := dk_42 (dk_at dksX0_nextRow_3 2 rfl rfl)
theorem dX0_nextRow_75 : decode cX0_nextRow 75 = .ok (.getfield 48, 3) := dk_180 0 48 (dk_at dksX0_nextRow_3 3 rfl rfl)
theorem dX0_nextRow_78 : decode cX0_nextRow 78 = .ok (.iload_n 3, 1) := dk_29 (dk_at dksX0_nextRow_3 6 rfl rfl)
theorem dX0_nextRow_79 : decode cX0_nextRow 79 = .ok (.iaload, 1) := dk_46 (dk_at dksX0_nextRow_3 7 rfl rfl)
theorem dX0_nextRow_80 : decode cX0_nextRow 80 = .ok (.iconst 1, 1) := dk_4 (dk_at dksX0_nextRow_3 8 rfl rfl)
theorem dX0_nextRow_81 : decode cX0_nextRow 81 = .ok (.isub, 1) := dk_100 (dk_at dksX0_nextRow_3 9 rfl rfl)
theorem dX0_nextRow_82 : decode cX0_nextRow 82 = .ok (.istore 5, 2) := dk_54 5 (dk_at dksX0_nextRow_3 10 rfl rfl)
theorem dX0_nextRow_84 : decode cX0_nextRow 84 = .ok (.aload_n 0, 1) := dk_42 (dk_at dksX0_nextRow_3 12 rfl rfl)
theorem dX0_nextRow_85 : decode cX0_nextRow 85 = .ok (.getfield 48, 3) := dk_180 0 48 (dk_at dksX0_nextRow_3 13 rfl rfl)
theorem dX0_nextRow_88 : decode cX0_nextRow 88 = .ok (.iload_n 3, 1) := dk_29 (dk_at dksX0_nextRow_3 16 rfl rfl)
theorem dX0_nextRow_89 : decode cX0_nextRow 89 = .ok (.iconst 0, 1) := dk_3 (dk_at dksX0_nextRow_3 17 rfl rfl)
theorem dX0_nextRow_90 : decode cX0_nextRow 90 = .ok (.iastore, 1) := dk_79 (dk_at dksX0_nextRow_3 18 rfl rfl)
theorem dX0_nextRow_91 : decode cX0_nextRow 91 = .ok (.aload_n 0, 1) := dk_42 (dk_at dksX0_nextRow_3 19 rfl rfl)
theorem dX0_nextRow_92 : decode cX0_nextRow 92 = .ok (.getfield 48, 3) := dk_180 0 48 (dk_at dksX0_nextRow_3 20 rfl rfl)
theorem dX0_nextRow_95 : decode cX0_nextRow 95 = .ok (.iload_n 3, 1) := dk_29 (dk_at dksX0_nextRow_3 23 rfl rfl)
theorem dX0_nextRow_96 : decode cX0_nextRow 96 = .ok (.iconst 1, 1) := dk_4 (dk_at dksX0_nextRow_4 0 rfl rfl)
theorem dX0_nextRow_97 : decode cX0_nextRow 97 = .ok (.isub, 1) := dk_100 (dk_at dksX0_nextRow_4 1 rfl rfl)
theorem dX0_nextRow_98 : decode cX0_nextRow 98 = .ok (.dup2, 1) := dk_92 (dk_at dksX0_nextRow_4 2 rfl rfl)
theorem dX0_nextRow_99 : decode cX0_nextRow 99 = .ok (.iaload, 1) := dk_46 (dk_at dksX0_nextRow_4 3 rfl rfl)
theorem dX0_nextRow_100 : decode cX0_nextRow 100 = .ok (.iconst 1, 1) := dk_4 (dk_at dksX0_nextRow_4 4 rfl rfl)
theorem dX0_nextRow_101 : decode cX0_nextRow 101 = .ok (.iadd, 1) := dk_96 (dk_at dksX0_nextRow_4 5 rfl rfl)
theorem dX0_nextRow_102 : decode cX0_nextRow 102 = .ok (.iastore, 1) := dk_79 (dk_at dksX0_nextRow_4 6 rfl rfl)
theorem dX0_nextRow_103 : decode cX0_nextRow 103 = .ok (.aload_n 0, 1) := dk_42 (dk_at dksX0_nextRow_4 7 rfl rfl)
theorem dX0_nextRow_104 : decode cX0_nextRow 104 = .ok (.getfield 48, 3) := dk_180 0 48 (dk_at dksX0_nextRow_4 8 rfl rfl)
theorem dX0_nextRow_107 : decode cX0_nextRow 107 = .ok (.iload_n 2, 1) := dk_28 (dk_at dksX0_nextRow_4 11 rfl rfl)
theorem dX0_nextRow_108 : decode cX0_nextRow 108 = .ok (.iload 5, 2) := dk_21 5 (dk_at dksX0_nextRow_4 12 rfl rfl)
theorem dX0_nextRow_110 : decode cX0_nextRow 110 = .ok (.iastore, 1) := dk_79 (dk_at dksX0_nextRow_4 14 rfl rfl)
theorem dX0_nextRow_111 : decode cX0_nextRow 111 = .ok (.iconst 1, 1) := dk_4 (dk_at dksX0_nextRow_4 15 rfl rfl)
theorem dX0_nextRow_112 : decode cX0_nextRow 112 = .ok (.ireturn, 1) := dk_172 (dk_at dksX0_nextRow_4 16 rfl rfl)
abbrev cX0_putBest : ByteArray := prog_1_method_33_code
def yX0_putBest : MethodName := ⟨RX0, "putBest", "(I)I"⟩
def dkwX0_putBest_1 : List UInt8 := [181, 0, 109, 27, 154, 0, 10, 42, 180, 1, 13, 167, 0, 7, 42, 180, 1, 24, 172]
abbrev dktX0_putBest_1 : List UInt8 := dkwX0_putBest_1 ++ []
def dkwX0_putBest_0 : List UInt8 := [42, 180, 0, 52, 3, 42, 180, 0, 55, 3, 42, 182, 0, 142, 184, 0, 198, 42, 42, 182, 0, 142]
abbrev dktX0_putBest_0 : List UInt8 := dkwX0_putBest_0 ++ dktX0_putBest_1
theorem dksX0_putBest_0 : cX0_putBest.data.toList.drop 0 = dktX0_putBest_0 := by decide +kernel
theorem dksX0_putBest_1 : cX0_putBest.data.toList.drop 22 = dktX0_putBest_1 := dk_seg dksX0_putBest_0 22 rfl rfl
theorem dX0_putBest_0 : decode cX0_putBest 0 = .ok (.aload_n 0, 1) := dk_42 (dk_at dksX0_putBest_0 0 rfl rfl)
theorem dX0_putBest_1 : decode cX0_putBest 1 = .ok (.getfield 52, 3) := dk_180 0 52 (dk_at dksX0_putBest_0 1 rfl rfl)
theorem dX0_putBest_4 : decode cX0_putBest 4 = .ok (.iconst 0, 1) := dk_3 (dk_at dksX0_putBest_0 4 rfl rfl)
theorem dX0_putBest_5 : decode cX0_putBest 5 = .ok (.aload_n 0, 1) := dk_42 (dk_at dksX0_putBest_0 5 rfl rfl)
theorem dX0_putBest_6 : decode cX0_putBest 6 = .ok (.getfield 55, 3) := dk_180 0 55 (dk_at dksX0_putBest_0 6 rfl rfl)
theorem dX0_putBest_9 : decode cX0_putBest 9 = .ok (.iconst 0, 1) := dk_3 (dk_at dksX0_putBest_0 9 rfl rfl)
theorem dX0_putBest_10 : decode cX0_putBest 10 = .ok (.aload_n 0, 1) := dk_42 (dk_at dksX0_putBest_0 10 rfl rfl)
theorem dX0_putBest_11 : decode cX0_putBest 11 = .ok (.invokevirtual 142, 3) := dk_182 0 142 (dk_at dksX0_putBest_0 11 rfl rfl)
theorem dX0_putBest_14 : decode cX0_putBest 14 = .ok (.invokestatic 198, 3) := dk_184 0 198 (dk_at dksX0_putBest_0 14 rfl rfl)
theorem dX0_putBest_17 : decode cX0_putBest 17 = .ok (.aload_n 0, 1) := dk_42 (dk_at dksX0_putBest_0 17 rfl rfl)
theorem dX0_putBest_18 : decode cX0_putBest 18 = .ok (.aload_n 0, 1) := dk_42 (dk_at dksX0_putBest_0 18 rfl rfl)
theorem dX0_putBest_19 : decode cX0_putBest 19 = .ok (.invokevirtual 142, 3) := dk_182 0 142 (dk_at dksX0_putBest_0 19 rfl rfl)
theorem dX0_putBest_22 : decode cX0_putBest 22 = .ok (.putfield 109, 3) := dk_181 0 109 (dk_at dksX0_putBest_1 0 rfl rfl)
theorem dX0_putBest_25 : decode cX0_putBest 25 = .ok (.iload_n 1, 1) := dk_27 (dk_at dksX0_putBest_1 3 rfl rfl)
theorem dX0_putBest_26 : decode cX0_putBest 26 = .ok (.ifCond .ne 10, 3) := dk_154 0 10 (dk_at dksX0_putBest_1 4 rfl rfl)
theorem dX0_putBest_29 : decode cX0_putBest 29 = .ok (.aload_n 0, 1) := dk_42 (dk_at dksX0_putBest_1 7 rfl rfl)
theorem dX0_putBest_30 : decode cX0_putBest 30 = .ok (.getfield 269, 3) := dk_180 1 13 (dk_at dksX0_putBest_1 8 rfl rfl)
theorem dX0_putBest_33 : decode cX0_putBest 33 = .ok (.goto 7, 3) := dk_167 0 7 (dk_at dksX0_putBest_1 11 rfl rfl)
theorem dX0_putBest_36 : decode cX0_putBest 36 = .ok (.aload_n 0, 1) := dk_42 (dk_at dksX0_putBest_1 14 rfl rfl)
theorem dX0_putBest_37 : decode cX0_putBest 37 = .ok (.getfield 280, 3) := dk_180 1 24 (dk_at dksX0_putBest_1 15 rfl rfl)
theorem dX0_putBest_40 : decode cX0_putBest 40 = .ok (.ireturn, 1) := dk_172 (dk_at dksX0_putBest_1 18 rfl rfl)
abbrev cX0_good : ByteArray := prog_1_method_35_code
def yX0_good : MethodName := ⟨RX0, "good", "(II)I"⟩
def dkwX0_good_1 : List UInt8 := [172, 42, 42, 180, 0, 31, 27, 4, 182, 1, 30, 42, 28, 182, 1, 34, 172]
abbrev dktX0_good_1 : List UInt8 := dkwX0_good_1 ++ []
def dkwX0_good_0 : List UInt8 := [42, 3, 181, 0, 109, 42, 27, 182, 0, 144, 153, 0, 12, 28, 3, 4, 184, 0, 138, 154, 0, 6, 18, 148]
abbrev dktX0_good_0 : List UInt8 := dkwX0_good_0 ++ dktX0_good_1
theorem dksX0_good_0 : cX0_good.data.toList.drop 0 = dktX0_good_0 := by decide +kernel
theorem dksX0_good_1 : cX0_good.data.toList.drop 24 = dktX0_good_1 := dk_seg dksX0_good_0 24 rfl rfl
theorem dX0_good_0 : decode cX0_good 0 = .ok (.aload_n 0, 1) := dk_42 (dk_at dksX0_good_0 0 rfl rfl)
theorem dX0_good_1 : decode cX0_good 1 = .ok (.iconst 0, 1) := dk_3 (dk_at dksX0_good_0 1 rfl rfl)
theorem dX0_good_2 : decode cX0_good 2 = .ok (.putfield 109, 3) := dk_181 0 109 (dk_at dksX0_good_0 2 rfl rfl)
theorem dX0_good_5 : decode cX0_good 5 = .ok (.aload_n 0, 1) := dk_42 (dk_at dksX0_good_0 5 rfl rfl)
theorem dX0_good_6 : decode cX0_good 6 = .ok (.iload_n 1, 1) := dk_27 (dk_at dksX0_good_0 6 rfl rfl)
theorem dX0_good_7 : decode cX0_good 7 = .ok (.invokevirtual 144, 3) := dk_182 0 144 (dk_at dksX0_good_0 7 rfl rfl)
theorem dX0_good_10 : decode cX0_good 10 = .ok (.ifCond .eq 12, 3) := dk_153 0 12 (dk_at dksX0_good_0 10 rfl rfl)
theorem dX0_good_13 : decode cX0_good 13 = .ok (.iload_n 2, 1) := dk_28 (dk_at dksX0_good_0 13 rfl rfl)
theorem dX0_good_14 : decode cX0_good 14 = .ok (.iconst 0, 1) := dk_3 (dk_at dksX0_good_0 14 rfl rfl)
theorem dX0_good_15 : decode cX0_good 15 = .ok (.iconst 1, 1) := dk_4 (dk_at dksX0_good_0 15 rfl rfl)
theorem dX0_good_16 : decode cX0_good 16 = .ok (.invokestatic 138, 3) := dk_184 0 138 (dk_at dksX0_good_0 16 rfl rfl)
theorem dX0_good_19 : decode cX0_good 19 = .ok (.ifCond .ne 6, 3) := dk_154 0 6 (dk_at dksX0_good_0 19 rfl rfl)
theorem dX0_good_22 : decode cX0_good 22 = .ok (.ldc 148, 2) := dk_18 148 (dk_at dksX0_good_0 22 rfl rfl)
theorem dX0_good_24 : decode cX0_good 24 = .ok (.ireturn, 1) := dk_172 (dk_at dksX0_good_1 0 rfl rfl)
theorem dX0_good_25 : decode cX0_good 25 = .ok (.aload_n 0, 1) := dk_42 (dk_at dksX0_good_1 1 rfl rfl)
theorem dX0_good_26 : decode cX0_good 26 = .ok (.aload_n 0, 1) := dk_42 (dk_at dksX0_good_1 2 rfl rfl)
theorem dX0_good_27 : decode cX0_good 27 = .ok (.getfield 31, 3) := dk_180 0 31 (dk_at dksX0_good_1 3 rfl rfl)
theorem dX0_good_30 : decode cX0_good 30 = .ok (.iload_n 1, 1) := dk_27 (dk_at dksX0_good_1 6 rfl rfl)
theorem dX0_good_31 : decode cX0_good 31 = .ok (.iconst 1, 1) := dk_4 (dk_at dksX0_good_1 7 rfl rfl)
theorem dX0_good_32 : decode cX0_good 32 = .ok (.invokevirtual 286, 3) := dk_182 1 30 (dk_at dksX0_good_1 8 rfl rfl)
theorem dX0_good_35 : decode cX0_good 35 = .ok (.aload_n 0, 1) := dk_42 (dk_at dksX0_good_1 11 rfl rfl)
theorem dX0_good_36 : decode cX0_good 36 = .ok (.iload_n 2, 1) := dk_28 (dk_at dksX0_good_1 12 rfl rfl)
theorem dX0_good_37 : decode cX0_good 37 = .ok (.invokevirtual 290, 3) := dk_182 1 34 (dk_at dksX0_good_1 13 rfl rfl)
theorem dX0_good_40 : decode cX0_good 40 = .ok (.ireturn, 1) := dk_172 (dk_at dksX0_good_1 16 rfl rfl)
abbrev cX0_leaks : ByteArray := prog_1_method_36_code
def yX0_leaks : MethodName := ⟨RX0, "leaks", "(I)I"⟩
def dkwX0_leaks_4 : List UInt8 := [96, 172]
abbrev dktX0_leaks_4 : List UInt8 := dkwX0_leaks_4 ++ []
def dkwX0_leaks_3 : List UInt8 := [42, 180, 0, 31, 42, 180, 0, 20, 182, 1, 10, 100, 42, 180, 0, 31, 42, 180, 0, 20, 27, 182, 0, 161]
abbrev dktX0_leaks_3 : List UInt8 := dkwX0_leaks_3 ++ dktX0_leaks_4
def dkwX0_leaks_2 : List UInt8 := [42, 180, 0, 38, 42, 180, 0, 20, 182, 1, 10, 42, 180, 0, 38, 42, 180, 0, 20, 27, 182, 0, 161, 100]
abbrev dktX0_leaks_2 : List UInt8 := dkwX0_leaks_2 ++ dktX0_leaks_3
def dkwX0_leaks_1 : List UInt8 := [180, 0, 38, 42, 180, 0, 31, 182, 0, 204, 42, 180, 0, 20, 27, 42, 180, 0, 52, 3, 182, 1, 6, 87]
abbrev dktX0_leaks_1 : List UInt8 := dkwX0_leaks_1 ++ dktX0_leaks_2
def dkwX0_leaks_0 : List UInt8 := [42, 27, 182, 0, 144, 154, 0, 6, 18, 148, 172, 42, 42, 180, 0, 31, 27, 3, 182, 1, 30, 42]
abbrev dktX0_leaks_0 : List UInt8 := dkwX0_leaks_0 ++ dktX0_leaks_1
theorem dksX0_leaks_0 : cX0_leaks.data.toList.drop 0 = dktX0_leaks_0 := by decide +kernel
theorem dksX0_leaks_1 : cX0_leaks.data.toList.drop 22 = dktX0_leaks_1 := dk_seg dksX0_leaks_0 22 rfl rfl
theorem dksX0_leaks_2 : cX0_leaks.data.toList.drop 46 = dktX0_leaks_2 := dk_seg dksX0_leaks_1 24 rfl rfl
theorem dksX0_leaks_3 : cX0_leaks.data.toList.drop 70 = dktX0_leaks_3 := dk_seg dksX0_leaks_2 24 rfl rfl
theorem dksX0_leaks_4 : cX0_leaks.data.toList.drop 94 = dktX0_leaks_4 := dk_seg dksX0_leaks_3 24 rfl rfl
theorem dX0_leaks_0 : decode cX0_leaks 0 = .ok (.aload_n 0, 1) := dk_42 (dk_at dksX0_leaks_0 0 rfl rfl)
theorem dX0_leaks_1 : decode cX0_leaks 1 = .ok (.iload_n 1, 1) := dk_27 (dk_at dksX0_leaks_0 1 rfl rfl)
theorem dX0_leaks_2 : decode cX0_leaks 2 = .ok (.invokevirtual 144, 3) := dk_182 0 144 (dk_at dksX0_leaks_0 2 rfl rfl)
theorem dX0_leaks_5 : decode cX0_leaks 5 = .ok (.ifCond .ne 6, 3) := dk_154 0 6 (dk_at dksX0_leaks_0 5 rfl rfl)
theorem dX0_leaks_8 : decode cX0_leaks 8 = .ok (.ldc 148, 2) := dk_18 148 (dk_at dksX0_leaks_0 8 rfl rfl)
theorem dX0_leaks_10 : decode cX0_leaks 10 = .ok (.ireturn, 1) := dk_172 (dk_at dksX0_leaks_0 10 rfl rfl)
theorem dX0_leaks_11 : decode cX0_leaks 11 = .ok (.aload_n 0, 1) := dk_42 (dk_at dksX0_leaks_0 11 rfl rfl)
theorem dX0_leaks_12 : decode cX0_leaks 12 = .ok (.aload_n 0, 1) := dk_42 (dk_at dksX0_leaks_0 12 rfl rfl)
theorem dX0_leaks_13 : decode cX0_leaks 13 = .ok (.getfield 31, 3) := dk_180 0 31 (dk_at dksX0_leaks_0 13 rfl rfl)
theorem dX0_leaks_16 : decode cX0_leaks 16 = .ok (.iload_n 1, 1) := dk_27 (dk_at dksX0_leaks_0 16 rfl rfl)
theorem dX0_leaks_17 : decode cX0_leaks 17 = .ok (.iconst 0, 1) := dk_3 (dk_at dksX0_leaks_0 17 rfl rfl)
theorem dX0_leaks_18 : decode cX0_leaks 18 = .ok (.invokevirtual 286, 3) := dk_182 1 30 (dk_at dksX0_leaks_0 18 rfl rfl)
theorem dX0_leaks_21 : decode cX0_leaks 21 = .ok (.aload_n 0, 1) := dk_42 (dk_at dksX0_leaks_0 21 rfl rfl)
theorem dX0_leaks_22 : decode cX0_leaks 22 = .ok (.getfield 38, 3) := dk_180 0 38 (dk_at dksX0_leaks_1 0 rfl rfl)
theorem dX0_leaks_25 : decode cX0_leaks 25 = .ok (.aload_n 0, 1) := dk_42 (dk_at dksX0_leaks_1 3 rfl rfl)
theorem dX0_leaks_26 : decode cX0_leaks 26 = .ok (.getfield 31, 3) := dk_180 0 31 (dk_at dksX0_leaks_1 4 rfl rfl)
theorem dX0_leaks_29 : decode cX0_leaks 29 = .ok (.invokevirtual 204, 3) := dk_182 0 204 (dk_at dksX0_leaks_1 7 rfl rfl)
theorem dX0_leaks_32 : decode cX0_leaks 32 = .ok (.aload_n 0, 1) := dk_42 (dk_at dksX0_leaks_1 10 rfl rfl)
theorem dX0_leaks_33 : decode cX0_leaks 33 = .ok (.getfield 20, 3) := dk_180 0 20 (dk_at dksX0_leaks_1 11 rfl rfl)
theorem dX0_leaks_36 : decode cX0_leaks 36 = .ok (.iload_n 1, 1) := dk_27 (dk_at dksX0_leaks_1 14 rfl rfl)
theorem dX0_leaks_37 : decode cX0_leaks 37 = .ok (.aload_n 0, 1) := dk_42 (dk_at dksX0_leaks_1 15 rfl rfl)
theorem dX0_leaks_38 : decode cX0_leaks 38 = .ok (.getfield 52, 3) := dk_180 0 52 (dk_at dksX0_leaks_1 16 rfl rfl)
theorem dX0_leaks_41 : decode cX0_leaks 41 = .ok (.iconst 0, 1) := dk_3 (dk_at dksX0_leaks_1 19 rfl rfl)
theorem dX0_leaks_42 : decode cX0_leaks 42 = .ok (.invokevirtual 262, 3) := dk_182 1 6 (dk_at dksX0_leaks_1 20 rfl rfl)
theorem dX0_leaks_45 : decode cX0_leaks 45 = .ok (.pop, 1) := dk_87 (dk_at dksX0_leaks_1 23 rfl rfl)
theorem dX0_leaks_46 : decode cX0_leaks 46 = .ok (.aload_n 0, 1) := dk_42 (dk_at dksX0_leaks_2 0 rfl rfl)
theorem dX0_leaks_47 : decode cX0_leaks 47 = .ok (.getfield 38, 3) := dk_180 0 38 (dk_at dksX0_leaks_2 1 rfl rfl)
theorem dX0_leaks_50 : decode cX0_leaks 50 = .ok (.aload_n 0, 1) := dk_42 (dk_at dksX0_leaks_2 4 rfl rfl)
theorem dX0_leaks_51 : decode cX0_leaks 51 = .ok (.getfield 20, 3) := dk_180 0 20 (dk_at dksX0_leaks_2 5 rfl rfl)
theorem dX0_leaks_54 : decode cX0_leaks 54 = .ok (.invokevirtual 266, 3) := dk_182 1 10 (dk_at dksX0_leaks_2 8 rfl rfl)
theorem dX0_leaks_57 : decode cX0_leaks 57 = .ok (.aload_n 0, 1) := dk_42 (dk_at dksX0_leaks_2 11 rfl rfl)
theorem dX0_leaks_58 : decode cX0_leaks 58 = .ok (.getfield 38, 3) := dk_180 0 38 (dk_at dksX0_leaks_2 12 rfl rfl)
theorem dX0_leaks_61 : decode cX0_leaks 61 = .ok (.aload_n 0, 1) := dk_42 (dk_at dksX0_leaks_2 15 rfl rfl)
theorem dX0_leaks_62 : decode cX0_leaks 62 = .ok (.getfield 20, 3) := dk_180 0 20 (dk_at dksX0_leaks_2 16 rfl rfl)
theorem dX0_leaks_65 : decode cX0_leaks 65 = .ok (.iload_n 1, 1) := dk_27 (dk_at dksX0_leaks_2 19 rfl rfl)
theorem dX0_leaks_66 : decode cX0_leaks 66 = .ok (.invokevirtual 161, 3) := dk_182 0 161 (dk_at dksX0_leaks_2 20 rfl rfl)
theorem dX0_leaks_69 : decode cX0_leaks 69 = .ok (.isub, 1) := dk_100 (dk_at dksX0_leaks_2 23 rfl rfl)
theorem dX0_leaks_70 : decode cX0_leaks 70 = .ok (.aload_n 0, 1) := dk_42 (dk_at dksX0_leaks_3 0 rfl rfl)
theorem dX0_leaks_71 : decode cX0_leaks 71 = .ok (.getfield 31, 3) := dk_180 0 31 (dk_at dksX0_leaks_3 1 rfl rfl)
theorem dX0_leaks_74 : decode cX0_leaks 74 = .ok (.aload_n 0, 1) := dk_42 (dk_at dksX0_leaks_3 4 rfl rfl)
theorem dX0_leaks_75 : decode cX0_leaks 75 = .ok (.getfield 20, 3) := dk_180 0 20 (dk_at dksX0_leaks_3 5 rfl rfl)
theorem dX0_leaks_78 : decode cX0_leaks 78 = .ok (.invokevirtual 266, 3) := dk_182 1 10 (dk_at dksX0_leaks_3 8 rfl rfl)
theorem dX0_leaks_81 : decode cX0_leaks 81 = .ok (.isub, 1) := dk_100 (dk_at dksX0_leaks_3 11 rfl rfl)
theorem dX0_leaks_82 : decode cX0_leaks 82 = .ok (.aload_n 0, 1) := dk_42 (dk_at dksX0_leaks_3 12 rfl rfl)
theorem dX0_leaks_83 : decode cX0_leaks 83 = .ok (.getfield 31, 3) := dk_180 0 31 (dk_at dksX0_leaks_3 13 rfl rfl)
theorem dX0_leaks_86 : decode cX0_leaks 86 = .ok (.aload_n 0, 1) := dk_42 (dk_at dksX0_leaks_3 16 rfl rfl)
theorem dX0_leaks_87 : decode cX0_leaks 87 = .ok (.getfield 20, 3) := dk_180 0 20 (dk_at dksX0_leaks_3 17 rfl rfl)
theorem dX0_leaks_90 : decode cX0_leaks 90 = .ok (.iload_n 1, 1) := dk_27 (dk_at dksX0_leaks_3 20 rfl rfl)
theorem dX0_leaks_91 : decode cX0_leaks 91 = .ok (.invokevirtual 161, 3) := dk_182 0 161 (dk_at dksX0_leaks_3 21 rfl rfl)
theorem dX0_leaks_94 : decode cX0_leaks 94 = .ok (.iadd, 1) := dk_96 (dk_at dksX0_leaks_4 0 rfl rfl)
theorem dX0_leaks_95 : decode cX0_leaks 95 = .ok (.ireturn, 1) := dk_172 (dk_at dksX0_leaks_4 1 rfl rfl)
abbrev cX0_needs : ByteArray := prog_1_method_37_code
def yX0_needs : MethodName := ⟨RX0, "needs", "(II)I"⟩
def dkwX0_needs_4 : List UInt8 := [42, 42, 42, 180, 0, 31, 27, 182, 0, 194, 182, 1, 27, 62, 167, 255, 178, 2, 172]
abbrev dktX0_needs_4 : List UInt8 := dkwX0_needs_4 ++ []
def dkwX0_needs_3 : List UInt8 := [42, 182, 0, 142, 184, 0, 198, 42, 42, 182, 0, 142, 181, 0, 109, 42, 180, 0, 48, 3, 184, 0, 255, 172]
abbrev dktX0_needs_3 : List UInt8 := dkwX0_needs_3 ++ dktX0_needs_4
def dkwX0_needs_2 : List UInt8 := [42, 42, 180, 0, 31, 27, 3, 182, 1, 20, 28, 161, 0, 37, 42, 180, 0, 48, 3, 42, 180, 0, 55, 3]
abbrev dktX0_needs_2 : List UInt8 := dkwX0_needs_2 ++ dktX0_needs_3
def dkwX0_needs_1 : List UInt8 := [2, 172, 42, 182, 1, 3, 4, 62, 29, 153, 0, 80, 42, 42, 180, 0, 31, 27, 182, 1, 16, 153, 0, 51]
abbrev dktX0_needs_1 : List UInt8 := dkwX0_needs_1 ++ dktX0_needs_2
def dkwX0_needs_0 : List UInt8 := [42, 3, 181, 0, 109, 42, 27, 182, 0, 144, 153, 0, 14, 28, 16, 236, 16, 20, 184, 0, 138, 154, 0, 5]
abbrev dktX0_needs_0 : List UInt8 := dkwX0_needs_0 ++ dktX0_needs_1
theorem dksX0_needs_0 : cX0_needs.data.toList.drop 0 = dktX0_needs_0 := by decide +kernel
theorem dksX0_needs_1 : cX0_needs.data.toList.drop 24 = dktX0_needs_1 := dk_seg dksX0_needs_0 24 rfl rfl
theorem dksX0_needs_2 : cX0_needs.data.toList.drop 48 = dktX0_needs_2 := dk_seg dksX0_needs_1 24 rfl rfl
theorem dksX0_needs_3 : cX0_needs.data.toList.drop 72 = dktX0_needs_3 := dk_seg dksX0_needs_2 24 rfl rfl
theorem dksX0_needs_4 : cX0_needs.data.toList.drop 96 = dktX0_needs_4 := dk_seg dksX0_needs_3 24 rfl rfl
theorem dX0_needs_0 : decode cX0_needs 0 = .ok (.aload_n 0, 1) := dk_42 (dk_at dksX0_needs_0 0 rfl rfl)
theorem dX0_needs_1 : decode cX0_needs 1 = .ok (.iconst 0, 1) := dk_3 (dk_at dksX0_needs_0 1 rfl rfl)
theorem dX0_needs_2 : decode cX0_needs 2 = .ok (.putfield 109, 3) := dk_181 0 109 (dk_at dksX0_needs_0 2 rfl rfl)
theorem dX0_needs_5 : decode cX0_needs 5 = .ok (.aload_n 0, 1) := dk_42 (dk_at dksX0_needs_0 5 rfl rfl)
theorem dX0_needs_6 : decode cX0_needs 6 = .ok (.iload_n 1, 1) := dk_27 (dk_at dksX0_needs_0 6 rfl rfl)
theorem dX0_needs_7 : decode cX0_needs 7 = .ok (.invokevirtual 144, 3) := dk_182 0 144 (dk_at dksX0_needs_0 7 rfl rfl)
theorem dX0_needs_10 : decode cX0_needs 10 = .ok (.ifCond .eq 14, 3) := dk_153 0 14 (dk_at dksX0_needs_0 10 rfl rfl)
theorem dX0_needs_13 : decode cX0_needs 13 = .ok (.iload_n 2, 1) := dk_28 (dk_at dksX0_needs_0 13 rfl rfl)
theorem dX0_needs_14 : decode cX0_needs 14 = .ok (.bipush (-20), 2) := dk_16 236 (dk_at dksX0_needs_0 14 rfl rfl)
theorem dX0_needs_16 : decode cX0_needs 16 = .ok (.bipush 20, 2) := dk_16 20 (dk_at dksX0_needs_0 16 rfl rfl)
theorem dX0_needs_18 : decode cX0_needs 18 = .ok (.invokestatic 138, 3) := dk_184 0 138 (dk_at dksX0_needs_0 18 rfl rfl)
theorem dX0_needs_21 : decode cX0_needs 21 = .ok (.ifCond .ne 5, 3) := dk_154 0 5 (dk_at dksX0_needs_0 21 rfl rfl)
theorem dX0_needs_24 : decode cX0_needs 24 = .ok (.iconst (-1), 1) := dk_2 (dk_at dksX0_needs_1 0 rfl rfl)
theorem dX0_needs_25 : decode cX0_needs 25 = .ok (.ireturn, 1) := dk_172 (dk_at dksX0_needs_1 1 rfl rfl)
theorem dX0_needs_26 : decode cX0_needs 26 = .ok (.aload_n 0, 1) := dk_42 (dk_at dksX0_needs_1 2 rfl rfl)
theorem dX0_needs_27 : decode cX0_needs 27 = .ok (.invokevirtual 259, 3) := dk_182 1 3 (dk_at dksX0_needs_1 3 rfl rfl)
theorem dX0_needs_30 : decode cX0_needs 30 = .ok (.iconst 1, 1) := dk_4 (dk_at dksX0_needs_1 6 rfl rfl)
theorem dX0_needs_31 : decode cX0_needs 31 = .ok (.istore_n 3, 1) := dk_62 (dk_at dksX0_needs_1 7 rfl rfl)
theorem dX0_needs_32 : decode cX0_needs 32 = .ok (.iload_n 3, 1) := dk_29 (dk_at dksX0_needs_1 8 rfl rfl)
theorem dX0_needs_33 : decode cX0_needs 33 = .ok (.ifCond .eq 80, 3) := dk_153 0 80 (dk_at dksX0_needs_1 9 rfl rfl)
theorem dX0_needs_36 : decode cX0_needs 36 = .ok (.aload_n 0, 1) := dk_42 (dk_at dksX0_needs_1 12 rfl rfl)
theorem dX0_needs_37 : decode cX0_needs 37 = .ok (.aload_n 0, 1) := dk_42 (dk_at dksX0_needs_1 13 rfl rfl)
theorem dX0_needs_38 : decode cX0_needs 38 = .ok (.getfield 31, 3) := dk_180 0 31 (dk_at dksX0_needs_1 14 rfl rfl)
theorem dX0_needs_41 : decode cX0_needs 41 = .ok (.iload_n 1, 1) := dk_27 (dk_at dksX0_needs_1 17 rfl rfl)
theorem dX0_needs_42 : decode cX0_needs 42 = .ok (.invokevirtual 272, 3) := dk_182 1 16 (dk_at dksX0_needs_1 18 rfl rfl)
theorem dX0_needs_45 : decode cX0_needs 45 = .ok (.ifCond .eq 51, 3) := dk_153 0 51 (dk_at dksX0_needs_1 21 rfl rfl)
theorem dX0_needs_48 : decode cX0_needs 48 = .ok (.aload_n 0, 1) := dk_42 (dk_at dksX0_needs_2 0 rfl rfl)
theorem dX0_needs_49 : decode cX0_needs 49 = .ok (.aload_n 0, 1) := dk_42 (dk_at dksX0_needs_2 1 rfl rfl)
theorem dX0_needs_50 : decode cX0_needs 50 = .ok (.getfield 31, 3) := dk_180 0 31 (dk_at dksX0_needs_2 2 rfl rfl)
theorem dX0_needs_53 : decode cX0_needs 53 = .ok (.iload_n 1, 1) := dk_27 (dk_at dksX0_needs_2 5 rfl rfl)
theorem dX0_needs_54 : decode cX0_needs 54 = .ok (.iconst 0, 1) := dk_3 (dk_at dksX0_needs_2 6 rfl rfl)
theorem dX0_needs_55 : decode cX0_needs 55 = .ok (.invokevirtual 276, 3) := dk_182 1 20 (dk_at dksX0_needs_2 7 rfl rfl)
theorem dX0_needs_58 : decode cX0_needs 58 = .ok (.iload_n 2, 1) := dk_28 (dk_at dksX0_needs_2 10 rfl rfl)
theorem dX0_needs_59 : decode cX0_needs 59 = .ok (.if_icmp .lt 37, 3) := dk_161 0 37 (dk_at dksX0_needs_2 11 rfl rfl)
theorem dX0_needs_62 : decode cX0_needs 62 = .ok (.aload_n 0, 1) := dk_42 (dk_at dksX0_needs_2 14 rfl rfl)
theorem dX0_needs_63 : decode cX0_needs 63 = .ok (.getfield 48, 3) := dk_180 0 48 (dk_at dksX0_needs_2 15 rfl rfl)
theorem dX0_needs_66 : decode cX0_needs 66 = .ok (.iconst 0, 1) := dk_3 (dk_at dksX0_needs_2 18 rfl rfl)
theorem dX0_needs_67 : decode cX0_needs 67 = .ok (.aload_n 0, 1) := dk_42 (dk_at dksX0_needs_2 19 rfl rfl)
theorem dX0_needs_68 : decode cX0_needs 68 = .ok (.getfield 55, 3) := dk_180 0 55 (dk_at dksX0_needs_2 20 rfl rfl)
theorem dX0_needs_71 : decode cX0_needs 71 = .ok (.iconst 0, 1) := dk_3 (dk_at dksX0_needs_2 23 rfl rfl)
theorem dX0_needs_72 : decode cX0_needs 72 = .ok (.aload_n 0, 1) := dk_42 (dk_at dksX0_needs_3 0 rfl rfl)
theorem dX0_needs_73 : decode cX0_needs 73 = .ok (.invokevirtual 142, 3) := dk_182 0 142 (dk_at dksX0_needs_3 1 rfl rfl)
theorem dX0_needs_76 : decode cX0_needs 76 = .ok (.invokestatic 198, 3) := dk_184 0 198 (dk_at dksX0_needs_3 4 rfl rfl)
theorem dX0_needs_79 : decode cX0_needs 79 = .ok (.aload_n 0, 1) := dk_42 (dk_at dksX0_needs_3 7 rfl rfl)
theorem dX0_needs_80 : decode cX0_needs 80 = .ok (.aload_n 0, 1) := dk_42 (dk_at dksX0_needs_3 8 rfl rfl)
theorem dX0_needs_81 : decode cX0_needs 81 = .ok (.invokevirtual 142, 3) := dk_182 0 142 (dk_at dksX0_needs_3 9 rfl rfl)
theorem dX0_needs_84 : decode cX0_needs 84 = .ok (.putfield 109, 3) := dk_181 0 109 (dk_at dksX0_needs_3 12 rfl rfl)
theorem dX0_needs_87 : decode cX0_needs 87 = .ok (.aload_n 0, 1) := dk_42 (dk_at dksX0_needs_3 15 rfl rfl)
theorem dX0_needs_88 : decode cX0_needs 88 = .ok (.getfield 48, 3) := dk_180 0 48 (dk_at dksX0_needs_3 16 rfl rfl)
theorem dX0_needs_91 : decode cX0_needs 91 = .ok (.iconst 0, 1) := dk_3 (dk_at dksX0_needs_3 19 rfl rfl)
theorem dX0_needs_92 : decode cX0_needs 92 = .ok (.invokestatic 255, 3) := dk_184 0 255 (dk_at dksX0_needs_3 20 rfl rfl)
theorem dX0_needs_95 : decode cX0_needs 95 = .ok (.ireturn, 1) := dk_172 (dk_at dksX0_needs_3 23 rfl rfl)
theorem dX0_needs_96 : decode cX0_needs 96 = .ok (.aload_n 0, 1) := dk_42 (dk_at dksX0_needs_4 0 rfl rfl)
theorem dX0_needs_97 : decode cX0_needs 97 = .ok (.aload_n 0, 1) := dk_42 (dk_at dksX0_needs_4 1 rfl rfl)
theorem dX0_needs_98 : decode cX0_needs 98 = .ok (.aload_n 0, 1) := dk_42 (dk_at dksX0_needs_4 2 rfl rfl)
theorem dX0_needs_99 : decode cX0_needs 99 = .ok (.getfield 31, 3) := dk_180 0 31 (dk_at dksX0_needs_4 3 rfl rfl)
theorem dX0_needs_102 : decode cX0_needs 102 = .ok (.iload_n 1, 1) := dk_27 (dk_at dksX0_needs_4 6 rfl rfl)
theorem dX0_needs_103 : decode cX0_needs 103 = .ok (.invokevirtual 194, 3) := dk_182 0 194 (dk_at dksX0_needs_4 7 rfl rfl)
theorem dX0_needs_106 : decode cX0_needs 106 = .ok (.invokevirtual 283, 3) := dk_182 1 27 (dk_at dksX0_needs_4 10 rfl rfl)
theorem dX0_needs_109 : decode cX0_needs 109 = .ok (.istore_n 3, 1) := dk_62 (dk_at dksX0_needs_4 13 rfl rfl)
theorem dX0_needs_110 : decode cX0_needs 110 = .ok (.goto (-78), 3) := dk_167 255 178 (dk_at dksX0_needs_4 14 rfl rfl)
theorem dX0_needs_113 : decode cX0_needs 113 = .ok (.iconst (-1), 1) := dk_2 (dk_at dksX0_needs_4 17 rfl rfl)
theorem dX0_needs_114 : decode cX0_needs 114 = .ok (.ireturn, 1) := dk_172 (dk_at dksX0_needs_4 18 rfl rfl)
abbrev cX0_pool : ByteArray := prog_1_method_41_code
def yX0_pool : MethodName := ⟨RX0, "pool", "(II)I"⟩
def dkwX0_pool_3 : List UInt8 := [132, 4, 1, 167, 255, 209, 42, 5, 42, 182, 0, 142, 104, 181, 0, 109, 29, 172]
abbrev dktX0_pool_3 : List UInt8 := dkwX0_pool_3 ++ []
def dkwX0_pool_2 : List UInt8 := [46, 79, 42, 180, 0, 55, 42, 182, 0, 142, 21, 4, 96, 42, 180, 0, 61, 6, 21, 4, 96, 46, 79]
abbrev dktX0_pool_2 : List UInt8 := dkwX0_pool_2 ++ dktX0_pool_3
def dkwX0_pool_1 : List UInt8 := [3, 54, 4, 21, 4, 42, 182, 0, 142, 162, 0, 44, 42, 180, 0, 55, 21, 4, 42, 180, 0, 61, 21, 4]
abbrev dktX0_pool_1 : List UInt8 := dkwX0_pool_1 ++ dktX0_pool_2
def dkwX0_pool_0 : List UInt8 := [42, 3, 181, 0, 109, 42, 27, 28, 182, 0, 222, 154, 0, 6, 18, 148, 172, 42, 27, 28, 182, 1, 46, 62]
abbrev dktX0_pool_0 : List UInt8 := dkwX0_pool_0 ++ dktX0_pool_1
theorem dksX0_pool_0 : cX0_pool.data.toList.drop 0 = dktX0_pool_0 := by decide +kernel
theorem dksX0_pool_1 : cX0_pool.data.toList.drop 24 = dktX0_pool_1 := dk_seg dksX0_pool_0 24 rfl rfl
theorem dksX0_pool_2 : cX0_pool.data.toList.drop 48 = dktX0_pool_2 := dk_seg dksX0_pool_1 24 rfl rfl
theorem dksX0_pool_3 : cX0_pool.data.toList.drop 71 = dktX0_pool_3 := dk_seg dksX0_pool_2 23 rfl rfl
theorem dX0_pool_0 : decode cX0_pool 0 = .ok (.aload_n 0, 1) := dk_42 (dk_at dksX0_pool_0 0 rfl rfl)
theorem dX0_pool_1 : decode cX0_pool 1 = .ok (.iconst 0, 1) := dk_3 (dk_at dksX0_pool_0 1 rfl rfl)
theorem dX0_pool_2 : decode cX0_pool 2 = .ok (.putfield 109, 3) := dk_181 0 109 (dk_at dksX0_pool_0 2 rfl rfl)
theorem dX0_pool_5 : decode cX0_pool 5 = .ok (.aload_n 0, 1) := dk_42 (dk_at dksX0_pool_0 5 rfl rfl)
theorem dX0_pool_6 : decode cX0_pool 6 = .ok (.iload_n 1, 1) := dk_27 (dk_at dksX0_pool_0 6 rfl rfl)
theorem dX0_pool_7 : decode cX0_pool 7 = .ok (.iload_n 2, 1) := dk_28 (dk_at dksX0_pool_0 7 rfl rfl)
theorem dX0_pool_8 : decode cX0_pool 8 = .ok (.invokevirtual 222, 3) := dk_182 0 222 (dk_at dksX0_pool_0 8 rfl rfl)
theorem dX0_pool_11 : decode cX0_pool 11 = .ok (.ifCond .ne 6, 3) := dk_154 0 6 (dk_at dksX0_pool_0 11 rfl rfl)
theorem dX0_pool_14 : decode cX0_pool 14 = .ok (.ldc 148, 2) := dk_18 148 (dk_at dksX0_pool_0 14 rfl rfl)
theorem dX0_pool_16 : decode cX0_pool 16 = .ok (.ireturn, 1) := dk_172 (dk_at dksX0_pool_0 16 rfl rfl)
theorem dX0_pool_17 : decode cX0_pool 17 = .ok (.aload_n 0, 1) := dk_42 (dk_at dksX0_pool_0 17 rfl rfl)
theorem dX0_pool_18 : decode cX0_pool 18 = .ok (.iload_n 1, 1) := dk_27 (dk_at dksX0_pool_0 18 rfl rfl)
theorem dX0_pool_19 : decode cX0_pool 19 = .ok (.iload_n 2, 1) := dk_28 (dk_at dksX0_pool_0 19 rfl rfl)
theorem dX0_pool_20 : decode cX0_pool 20 = .ok (.invokevirtual 302, 3) := dk_182 1 46 (dk_at dksX0_pool_0 20 rfl rfl)
theorem dX0_pool_23 : decode cX0_pool 23 = .ok (.istore_n 3, 1) := dk_62 (dk_at dksX0_pool_0 23 rfl rfl)
theorem dX0_pool_24 : decode cX0_pool 24 = .ok (.iconst 0, 1) := dk_3 (dk_at dksX0_pool_1 0 rfl rfl)
theorem dX0_pool_25 : decode cX0_pool 25 = .ok (.istore 4, 2) := dk_54 4 (dk_at dksX0_pool_1 1 rfl rfl)
theorem dX0_pool_27 : decode cX0_pool 27 = .ok (.iload 4, 2) := dk_21 4 (dk_at dksX0_pool_1 3 rfl rfl)
theorem dX0_pool_29 : decode cX0_pool 29 = .ok (.aload_n 0, 1) := dk_42 (dk_at dksX0_pool_1 5 rfl rfl)
theorem dX0_pool_30 : decode cX0_pool 30 = .ok (.invokevirtual 142, 3) := dk_182 0 142 (dk_at dksX0_pool_1 6 rfl rfl)
theorem dX0_pool_33 : decode cX0_pool 33 = .ok (.if_icmp .ge 44, 3) := dk_162 0 44 (dk_at dksX0_pool_1 9 rfl rfl)
theorem dX0_pool_36 : decode cX0_pool 36 = .ok (.aload_n 0, 1) := dk_42 (dk_at dksX0_pool_1 12 rfl rfl)
theorem dX0_pool_37 : decode cX0_pool 37 = .ok (.getfield 55, 3) := dk_180 0 55 (dk_at dksX0_pool_1 13 rfl rfl)
theorem dX0_pool_40 : decode cX0_pool 40 = .ok (.iload 4, 2) := dk_21 4 (dk_at dksX0_pool_1 16 rfl rfl)
theorem dX0_pool_42 : decode cX0_pool 42 = .ok (.aload_n 0, 1) := dk_42 (dk_at dksX0_pool_1 18 rfl rfl)
theorem dX0_pool_43 : decode cX0_pool 43 = .ok (.getfield 61, 3) := dk_180 0 61 (dk_at dksX0_pool_1 19 rfl rfl)
theorem dX0_pool_46 : decode cX0_pool 46 = .ok (.iload 4, 2) := dk_21 4 (dk_at dksX0_pool_1 22 rfl rfl)
theorem dX0_pool_48 : decode cX0_pool 48 = .ok (.iaload, 1) := dk_46 (dk_at dksX0_pool_2 0 rfl rfl)
theorem dX0_pool_49 : decode cX0_pool 49 = .ok (.iastore, 1) := dk_79 (dk_at dksX0_pool_2 1 rfl rfl)
theorem dX0_pool_50 : decode cX0_pool 50 = .ok (.aload_n 0, 1) := dk_42 (dk_at dksX0_pool_2 2 rfl rfl)
theorem dX0_pool_51 : decode cX0_pool 51 = .ok (.getfield 55, 3) := dk_180 0 55 (dk_at dksX0_pool_2 3 rfl rfl)
theorem dX0_pool_54 : decode cX0_pool 54 = .ok (.aload_n 0, 1) := dk_42 (dk_at dksX0_pool_2 6 rfl rfl)
theorem dX0_pool_55 : decode cX0_pool 55 = .ok (.invokevirtual 142, 3) := dk_182 0 142 (dk_at dksX0_pool_2 7 rfl rfl)
theorem dX0_pool_58 : decode cX0_pool 58 = .ok (.iload 4, 2) := dk_21 4 (dk_at dksX0_pool_2 10 rfl rfl)
theorem dX0_pool_60 : decode cX0_pool 60 = .ok (.iadd, 1) := dk_96 (dk_at dksX0_pool_2 12 rfl rfl)
theorem dX0_pool_61 : decode cX0_pool 61 = .ok (.aload_n 0, 1) := dk_42 (dk_at dksX0_pool_2 13 rfl rfl)
theorem dX0_pool_62 : decode cX0_pool 62 = .ok (.getfield 61, 3) := dk_180 0 61 (dk_at dksX0_pool_2 14 rfl rfl)
theorem dX0_pool_65 : decode cX0_pool 65 = .ok (.iconst 3, 1) := dk_6 (dk_at dksX0_pool_2 17 rfl rfl)
theorem dX0_pool_66 : decode cX0_pool 66 = .ok (.iload 4, 2) := dk_21 4 (dk_at dksX0_pool_2 18 rfl rfl)
theorem dX0_pool_68 : decode cX0_pool 68 = .ok (.iadd, 1) := dk_96 (dk_at dksX0_pool_2 20 rfl rfl)
theorem dX0_pool_69 : decode cX0_pool 69 = .ok (.iaload, 1) := dk_46 (dk_at dksX0_pool_2 21 rfl rfl)
theorem dX0_pool_70 : decode cX0_pool 70 = .ok (.iastore, 1) := dk_79 (dk_at dksX0_pool_2 22 rfl rfl)
theorem dX0_pool_71 : decode cX0_pool 71 = .ok (.iinc 4 1, 3) := dk_132 4 1 (dk_at dksX0_pool_3 0 rfl rfl)
theorem dX0_pool_74 : decode cX0_pool 74 = .ok (.goto (-47), 3) := dk_167 255 209 (dk_at dksX0_pool_3 3 rfl rfl)
theorem dX0_pool_77 : decode cX0_pool 77 = .ok (.aload_n 0, 1) := dk_42 (dk_at dksX0_pool_3 6 rfl rfl)
theorem dX0_pool_78 : decode cX0_pool 78 = .ok (.iconst 2, 1) := dk_5 (dk_at dksX0_pool_3 7 rfl rfl)
theorem dX0_pool_79 : decode cX0_pool 79 = .ok (.aload_n 0, 1) := dk_42 (dk_at dksX0_pool_3 8 rfl rfl)
theorem dX0_pool_80 : decode cX0_pool 80 = .ok (.invokevirtual 142, 3) := dk_182 0 142 (dk_at dksX0_pool_3 9 rfl rfl)
theorem dX0_pool_83 : decode cX0_pool 83 = .ok (.imul, 1) := dk_104 (dk_at dksX0_pool_3 12 rfl rfl)
theorem dX0_pool_84 : decode cX0_pool 84 = .ok (.putfield 109, 3) := dk_181 0 109 (dk_at dksX0_pool_3 13 rfl rfl)
theorem dX0_pool_87 : decode cX0_pool 87 = .ok (.iload_n 3, 1) := dk_29 (dk_at dksX0_pool_3 16 rfl rfl)
theorem dX0_pool_88 : decode cX0_pool 88 = .ok (.ireturn, 1) := dk_172 (dk_at dksX0_pool_3 17 rfl rfl)
abbrev cX0_pooled : ByteArray := prog_1_method_40_code
def yX0_pooled : MethodName := ⟨RX0, "pooled", "(II)I"⟩
def dkwX0_pooled_9 : List UInt8 := [180, 0, 61, 3, 16, 6, 184, 0, 198, 132, 7, 1, 167, 255, 81, 132, 6, 1, 167, 255, 40, 21, 4, 172]
abbrev dktX0_pooled_9 : List UInt8 := dkwX0_pooled_9 ++ []
def dkwX0_pooled_8 : List UInt8 := [21, 9, 21, 5, 161, 0, 6, 167, 0, 26, 21, 8, 54, 4, 21, 9, 54, 5, 42, 180, 0, 58, 3, 42]
abbrev dktX0_pooled_8 : List UInt8 := dkwX0_pooled_8 ++ dktX0_pooled_9
def dkwX0_pooled_7 : List UInt8 := [180, 0, 58, 6, 184, 0, 255, 96, 54, 9, 21, 8, 21, 4, 161, 0, 43, 21, 8, 21, 4, 160, 0, 13]
abbrev dktX0_pooled_7 : List UInt8 := dkwX0_pooled_7 ++ dktX0_pooled_8
def dkwX0_pooled_6 : List UInt8 := [180, 0, 38, 42, 180, 0, 20, 28, 182, 0, 161, 96, 54, 8, 42, 180, 0, 58, 3, 184, 0, 255, 42]
abbrev dktX0_pooled_6 : List UInt8 := dkwX0_pooled_6 ++ dktX0_pooled_7
def dkwX0_pooled_5 : List UInt8 := [42, 180, 0, 58, 6, 182, 1, 6, 87, 42, 180, 0, 38, 42, 180, 0, 20, 27, 182, 0, 161, 42]
abbrev dktX0_pooled_5 : List UInt8 := dkwX0_pooled_5 ++ dktX0_pooled_6
def dkwX0_pooled_4 : List UInt8 := [180, 0, 31, 182, 0, 204, 42, 180, 0, 20, 27, 42, 180, 0, 58, 3, 182, 1, 6, 42, 180, 0, 20, 28]
abbrev dktX0_pooled_4 : List UInt8 := dkwX0_pooled_4 ++ dktX0_pooled_5
def dkwX0_pooled_3 : List UInt8 := [182, 1, 40, 153, 0, 146, 42, 27, 28, 182, 1, 43, 154, 0, 6, 167, 0, 134, 42, 180, 0, 38, 42]
abbrev dktX0_pooled_3 : List UInt8 := dkwX0_pooled_3 ++ dktX0_pooled_4
def dkwX0_pooled_2 : List UInt8 := [21, 7, 29, 162, 0, 175, 42, 21, 7, 6, 6, 42, 42, 180, 0, 31, 28, 182, 0, 194, 184, 1, 37]
abbrev dktX0_pooled_2 : List UInt8 := dkwX0_pooled_2 ++ dktX0_pooled_3
def dkwX0_pooled_1 : List UInt8 := [42, 42, 180, 0, 31, 27, 182, 0, 194, 184, 1, 37, 182, 1, 40, 154, 0, 6, 167, 0, 184, 3, 54, 7]
abbrev dktX0_pooled_1 : List UInt8 := dkwX0_pooled_1 ++ dktX0_pooled_2
def dkwX0_pooled_0 : List UInt8 := [16, 64, 62, 18, 148, 54, 4, 3, 54, 5, 3, 54, 6, 21, 6, 29, 162, 0, 216, 42, 21, 6, 3, 6]
abbrev dktX0_pooled_0 : List UInt8 := dkwX0_pooled_0 ++ dktX0_pooled_1
theorem dksX0_pooled_0 : cX0_pooled.data.toList.drop 0 = dktX0_pooled_0 := by decide +kernel
theorem dksX0_pooled_1 : cX0_pooled.data.toList.drop 24 = dktX0_pooled_1 := dk_seg dksX0_pooled_0 24 rfl rfl
theorem dksX0_pooled_2 : cX0_pooled.data.toList.drop 48 = dktX0_pooled_2 := dk_seg dksX0_pooled_1 24 rfl rfl
theorem dksX0_pooled_3 : cX0_pooled.data.toList.drop 71 = dktX0_pooled_3 := dk_seg dksX0_pooled_2 23 rfl rfl
theorem dksX0_pooled_4 : cX0_pooled.data.toList.drop 94 = dktX0_pooled_4 := dk_seg dksX0_pooled_3 23 rfl rfl
theorem dksX0_pooled_5 : cX0_pooled.data.toList.drop 118 = dktX0_pooled_5 := dk_seg dksX0_pooled_4 24 rfl rfl
theorem dksX0_pooled_6 : cX0_pooled.data.toList.drop 140 = dktX0_pooled_6 := dk_seg dksX0_pooled_5 22 rfl rfl
theorem dksX0_pooled_7 : cX0_pooled.data.toList.drop 163 = dktX0_pooled_7 := dk_seg dksX0_pooled_6 23 rfl rfl
theorem dksX0_pooled_8 : cX0_pooled.data.toList.drop 187 = dktX0_pooled_8 := dk_seg dksX0_pooled_7 24 rfl rfl
theorem dksX0_pooled_9 : cX0_pooled.data.toList.drop 211 = dktX0_pooled_9 := dk_seg dksX0_pooled_8 24 rfl rfl
theorem dX0_pooled_0 : decode cX0_pooled 0 = .ok (.bipush 64, 2) := dk_16 64 (dk_at dksX0_pooled_0 0 rfl rfl)
theorem dX0_pooled_2 : decode cX0_pooled 2 = .ok (.istore_n 3, 1) := dk_62 (dk_at dksX0_pooled_0 2 rfl rfl)
theorem dX0_pooled_3 : decode cX0_pooled 3 = .ok (.ldc 148, 2) := dk_18 148 (dk_at dksX0_pooled_0 3 rfl rfl)
theorem dX0_pooled_5 : decode cX0_pooled 5 = .ok (.istore 4, 2) := dk_54 4 (dk_at dksX0_pooled_0 5 rfl rfl)
theorem dX0_pooled_7 : decode cX0_pooled 7 = .ok (.iconst 0, 1) := dk_3 (dk_at dksX0_pooled_0 7 rfl rfl)
theorem dX0_pooled_8 : decode cX0_pooled 8 = .ok (.istore 5, 2) := dk_54 5 (dk_at dksX0_pooled_0 8 rfl rfl)
theorem dX0_pooled_10 : decode cX0_pooled 10 = .ok (.iconst 0, 1) := dk_3 (dk_at dksX0_pooled_0 10 rfl rfl)
theorem dX0_pooled_11 : decode cX0_pooled 11 = .ok (.istore 6, 2) := dk_54 6 (dk_at dksX0_pooled_0 11 rfl rfl)
theorem dX0_pooled_13 : decode cX0_pooled 13 = .ok (.iload 6, 2) := dk_21 6 (dk_at dksX0_pooled_0 13 rfl rfl)
theorem dX0_pooled_15 : decode cX0_pooled 15 = .ok (.iload_n 3, 1) := dk_29 (dk_at dksX0_pooled_0 15 rfl rfl)
theorem dX0_pooled_16 : decode cX0_pooled 16 = .ok (.if_icmp .ge 216, 3) := dk_162 0 216 (dk_at dksX0_pooled_0 16 rfl rfl)
theorem dX0_pooled_19 : decode cX0_pooled 19 = .ok (.aload_n 0, 1) := dk_42 (dk_at dksX0_pooled_0 19 rfl rfl)
theorem dX0_pooled_20 : decode cX0_pooled 20 = .ok (.iload 6, 2) := dk_21 6 (dk_at dksX0_pooled_0 20 rfl rfl)
theorem dX0_pooled_22 : decode cX0_pooled 22 = .ok (.iconst 0, 1) := dk_3 (dk_at dksX0_pooled_0 22 rfl rfl)
theorem dX0_pooled_23 : decode cX0_pooled 23 = .ok (.iconst 3, 1) := dk_6 (dk_at dksX0_pooled_0 23 rfl rfl)
theorem dX0_pooled_24 : decode cX0_pooled 24 = .ok (.aload_n 0, 1) := dk_42 (dk_at dksX0_pooled_1 0 rfl rfl)
theorem dX0_pooled_25 : decode cX0_pooled 25 = .ok (.aload_n 0, 1) := dk_42 (dk_at dksX0_pooled_1 1 rfl rfl)
theorem dX0_pooled_26 : decode cX0_pooled 26 = .ok (.getfield 31, 3) := dk_180 0 31 (dk_at dksX0_pooled_1 2 rfl rfl)
theorem dX0_pooled_29 : decode cX0_pooled 29 = .ok (.iload_n 1, 1) := dk_27 (dk_at dksX0_pooled_1 5 rfl rfl)
theorem dX0_pooled_30 : decode cX0_pooled 30 = .ok (.invokevirtual 194, 3) := dk_182 0 194 (dk_at dksX0_pooled_1 6 rfl rfl)
theorem dX0_pooled_33 : decode cX0_pooled 33 = .ok (.invokestatic 293, 3) := dk_184 1 37 (dk_at dksX0_pooled_1 9 rfl rfl)
theorem dX0_pooled_36 : decode cX0_pooled 36 = .ok (.invokevirtual 296, 3) := dk_182 1 40 (dk_at dksX0_pooled_1 12 rfl rfl)
theorem dX0_pooled_39 : decode cX0_pooled 39 = .ok (.ifCond .ne 6, 3) := dk_154 0 6 (dk_at dksX0_pooled_1 15 rfl rfl)
theorem dX0_pooled_42 : decode cX0_pooled 42 = .ok (.goto 184, 3) := dk_167 0 184 (dk_at dksX0_pooled_1 18 rfl rfl)
theorem dX0_pooled_45 : decode cX0_pooled 45 = .ok (.iconst 0, 1) := dk_3 (dk_at dksX0_pooled_1 21 rfl rfl)
theorem dX0_pooled_46 : decode cX0_pooled 46 = .ok (.istore 7, 2) := dk_54 7 (dk_at dksX0_pooled_1 22 rfl rfl)
theorem dX0_pooled_48 : decode cX0_pooled 48 = .ok (.iload 7, 2) := dk_21 7 (dk_at dksX0_pooled_2 0 rfl rfl)
theorem dX0_pooled_50 : decode cX0_pooled 50 = .ok (.iload_n 3, 1) := dk_29 (dk_at dksX0_pooled_2 2 rfl rfl)
theorem dX0_pooled_51 : decode cX0_pooled 51 = .ok (.if_icmp .ge 175, 3) := dk_162 0 175 (dk_at dksX0_pooled_2 3 rfl rfl)
theorem dX0_pooled_54 : decode cX0_pooled 54 = .ok (.aload_n 0, 1) := dk_42 (dk_at dksX0_pooled_2 6 rfl rfl)
theorem dX0_pooled_55 : decode cX0_pooled 55 = .ok (.iload 7, 2) := dk_21 7 (dk_at dksX0_pooled_2 7 rfl rfl)
theorem dX0_pooled_57 : decode cX0_pooled 57 = .ok (.iconst 3, 1) := dk_6 (dk_at dksX0_pooled_2 9 rfl rfl)
theorem dX0_pooled_58 : decode cX0_pooled 58 = .ok (.iconst 3, 1) := dk_6 (dk_at dksX0_pooled_2 10 rfl rfl)
theorem dX0_pooled_59 : decode cX0_pooled 59 = .ok (.aload_n 0, 1) := dk_42 (dk_at dksX0_pooled_2 11 rfl rfl)
theorem dX0_pooled_60 : decode cX0_pooled 60 = .ok (.aload_n 0, 1) := dk_42 (dk_at dksX0_pooled_2 12 rfl rfl)
theorem dX0_pooled_61 : decode cX0_pooled 61 = .ok (.getfield 31, 3) := dk_180 0 31 (dk_at dksX0_pooled_2 13 rfl rfl)
theorem dX0_pooled_64 : decode cX0_pooled 64 = .ok (.iload_n 2, 1) := dk_28 (dk_at dksX0_pooled_2 16 rfl rfl)
theorem dX0_pooled_65 : decode cX0_pooled 65 = .ok (.invokevirtual 194, 3) := dk_182 0 194 (dk_at dksX0_pooled_2 17 rfl rfl)
theorem dX0_pooled_68 : decode cX0_pooled 68 = .ok (.invokestatic 293, 3) := dk_184 1 37 (dk_at dksX0_pooled_2 20 rfl rfl)
theorem dX0_pooled_71 : decode cX0_pooled 71 = .ok (.invokevirtual 296, 3) := dk_182 1 40 (dk_at dksX0_pooled_3 0 rfl rfl)
theorem dX0_pooled_74 : decode cX0_pooled 74 = .ok (.ifCond .eq 146, 3) := dk_153 0 146 (dk_at dksX0_pooled_3 3 rfl rfl)
theorem dX0_pooled_77 : decode cX0_pooled 77 = .ok (.aload_n 0, 1) := dk_42 (dk_at dksX0_pooled_3 6 rfl rfl)
theorem dX0_pooled_78 : decode cX0_pooled 78 = .ok (.iload_n 1, 1) := dk_27 (dk_at dksX0_pooled_3 7 rfl rfl)
theorem dX0_pooled_79 : decode cX0_pooled 79 = .ok (.iload_n 2, 1) := dk_28 (dk_at dksX0_pooled_3 8 rfl rfl)
theorem dX0_pooled_80 : decode cX0_pooled 80 = .ok (.invokevirtual 299, 3) := dk_182 1 43 (dk_at dksX0_pooled_3 9 rfl rfl)
theorem dX0_pooled_83 : decode cX0_pooled 83 = .ok (.ifCond .ne 6, 3) := dk_154 0 6 (dk_at dksX0_pooled_3 12 rfl rfl)
theorem dX0_pooled_86 : decode cX0_pooled 86 = .ok (.goto 134, 3) := dk_167 0 134 (dk_at dksX0_pooled_3 15 rfl rfl)
theorem dX0_pooled_89 : decode cX0_pooled 89 = .ok (.aload_n 0, 1) := dk_42 (dk_at dksX0_pooled_3 18 rfl rfl)
theorem dX0_pooled_90 : decode cX0_pooled 90 = .ok (.getfield 38, 3) := dk_180 0 38 (dk_at dksX0_pooled_3 19 rfl rfl)
theorem dX0_pooled_93 : decode cX0_pooled 93 = .ok (.aload_n 0, 1) := dk_42 (dk_at dksX0_pooled_3 22 rfl rfl)
theorem dX0_pooled_94 : decode cX0_pooled 94 = .ok (.getfield 31, 3) := dk_180 0 31 (dk_at dksX0_pooled_4 0 rfl rfl)
theorem dX0_pooled_97 : decode cX0_pooled 97 = .ok (.invokevirtual 204, 3) := dk_182 0 204 (dk_at dksX0_pooled_4 3 rfl rfl)
theorem dX0_pooled_100 : decode cX0_pooled 100 = .ok (.aload_n 0, 1) := dk_42 (dk_at dksX0_pooled_4 6 rfl rfl)
theorem dX0_pooled_101 : decode cX0_pooled 101 = .ok (.getfield 20, 3) := dk_180 0 20 (dk_at dksX0_pooled_4 7 rfl rfl)
theorem dX0_pooled_104 : decode cX0_pooled 104 = .ok (.iload_n 1, 1) := dk_27 (dk_at dksX0_pooled_4 10 rfl rfl)
theorem dX0_pooled_105 : decode cX0_pooled 105 = .ok (.aload_n 0, 1) := dk_42 (dk_at dksX0_pooled_4 11 rfl rfl)
theorem dX0_pooled_106 : decode cX0_pooled 106 = .ok (.getfield 58, 3) := dk_180 0 58 (dk_at dksX0_pooled_4 12 rfl rfl)
theorem dX0_pooled_109 : decode cX0_pooled 109 = .ok (.iconst 0, 1) := dk_3 (dk_at dksX0_pooled_4 15 rfl rfl)
theorem dX0_pooled_110 : decode cX0_pooled 110 = .ok (.invokevirtual 262, 3) := dk_182 1 6 (dk_at dksX0_pooled_4 16 rfl rfl)
theorem dX0_pooled_113 : decode cX0_pooled 113 = .ok (.aload_n 0, 1) := dk_42 (dk_at dksX0_pooled_4 19 rfl rfl)
theorem dX0_pooled_114 : decode cX0_pooled 114 = .ok (.getfield 20, 3) := dk_180 0 20 (dk_at dksX0_pooled_4 20 rfl rfl)
theorem dX0_pooled_117 : decode cX0_pooled 117 = .ok (.iload_n 2, 1) := dk_28 (dk_at dksX0_pooled_4 23 rfl rfl)
theorem dX0_pooled_118 : decode cX0_pooled 118 = .ok (.aload_n 0, 1) := dk_42 (dk_at dksX0_pooled_5 0 rfl rfl)
theorem dX0_pooled_119 : decode cX0_pooled 119 = .ok (.getfield 58, 3) := dk_180 0 58 (dk_at dksX0_pooled_5 1 rfl rfl)
theorem dX0_pooled_122 : decode cX0_pooled 122 = .ok (.iconst 3, 1) := dk_6 (dk_at dksX0_pooled_5 4 rfl rfl)
theorem dX0_pooled_123 : decode cX0_pooled 123 = .ok (.invokevirtual 262, 3) := dk_182 1 6 (dk_at dksX0_pooled_5 5 rfl rfl)
theorem dX0_pooled_126 : decode cX0_pooled 126 = .ok (.pop, 1) := dk_87 (dk_at dksX0_pooled_5 8 rfl rfl)
theorem dX0_pooled_127 : decode cX0_pooled 127 = .ok (.aload_n 0, 1) := dk_42 (dk_at dksX0_pooled_5 9 rfl rfl)
theorem dX0_pooled_128 : decode cX0_pooled 128 = .ok (.getfield 38, 3) := dk_180 0 38 (dk_at dksX0_pooled_5 10 rfl rfl)
theorem dX0_pooled_131 : decode cX0_pooled 131 = .ok (.aload_n 0, 1) := dk_42 (dk_at dksX0_pooled_5 13 rfl rfl)
theorem dX0_pooled_132 : decode cX0_pooled 132 = .ok (.getfield 20, 3) := dk_180 0 20 (dk_at dksX0_pooled_5 14 rfl rfl)
theorem dX0_pooled_135 : decode cX0_pooled 135 = .ok (.iload_n 1, 1) := dk_27 (dk_at dksX0_pooled_5 17 rfl rfl)
theorem dX0_pooled_136 : decode cX0_pooled 136 = .ok (.invokevirtual 161, 3) := dk_182 0 161 (dk_at dksX0_pooled_5 18 rfl rfl)
theorem dX0_pooled_139 : decode cX0_pooled 139 = .ok (.aload_n 0, 1) := dk_42 (dk_at dksX0_pooled_5 21 rfl rfl)
theorem dX0_pooled_140 : decode cX0_pooled 140 = .ok (.getfield 38, 3) := dk_180 0 38 (dk_at dksX0_pooled_6 0 rfl rfl)
theorem dX0_pooled_143 : decode cX0_pooled 143 = .ok (.aload_n 0, 1) := dk_42 (dk_at dksX0_pooled_6 3 rfl rfl)
theorem dX0_pooled_144 : decode cX0_pooled 144 = .ok (.getfield 20, 3) := dk_180 0 20 (dk_at dksX0_pooled_6 4 rfl rfl)
theorem dX0_pooled_147 : decode cX0_pooled 147 = .ok (.iload_n 2, 1) := dk_28 (dk_at dksX0_pooled_6 7 rfl rfl)
theorem dX0_pooled_148 : decode cX0_pooled 148 = .ok (.invokevirtual 161, 3) := dk_182 0 161 (dk_at dksX0_pooled_6 8 rfl rfl)
theorem dX0_pooled_151 : decode cX0_pooled 151 = .ok (.iadd, 1) := dk_96 (dk_at dksX0_pooled_6 11 rfl rfl)
theorem dX0_pooled_152 : decode cX0_pooled 152 = .ok (.istore 8, 2) := dk_54 8 (dk_at dksX0_pooled_6 12 rfl rfl)
theorem dX0_pooled_154 : decode cX0_pooled 154 = .ok (.aload_n 0, 1) := dk_42 (dk_at dksX0_pooled_6 14 rfl rfl)
theorem dX0_pooled_155 : decode cX0_pooled 155 = .ok (.getfield 58, 3) := dk_180 0 58 (dk_at dksX0_pooled_6 15 rfl rfl)
theorem dX0_pooled_158 : decode cX0_pooled 158 = .ok (.iconst 0, 1) := dk_3 (dk_at dksX0_pooled_6 18 rfl rfl)
theorem dX0_pooled_159 : decode cX0_pooled 159 = .ok (.invokestatic 255, 3) := dk_184 0 255 (dk_at dksX0_pooled_6 19 rfl rfl)
theorem dX0_pooled_162 : decode cX0_pooled 162 = .ok (.aload_n 0, 1) := dk_42 (dk_at dksX0_pooled_6 22 rfl rfl)
theorem dX0_pooled_163 : decode cX0_pooled 163 = .ok (.getfield 58, 3) := dk_180 0 58 (dk_at dksX0_pooled_7 0 rfl rfl)
theorem dX0_pooled_166 : decode cX0_pooled 166 = .ok (.iconst 3, 1) := dk_6 (dk_at dksX0_pooled_7 3 rfl rfl)
theorem dX0_pooled_167 : decode cX0_pooled 167 = .ok (.invokestatic 255, 3) := dk_184 0 255 (dk_at dksX0_pooled_7 4 rfl rfl)
theorem dX0_pooled_170 : decode cX0_pooled 170 = .ok (.iadd, 1) := dk_96 (dk_at dksX0_pooled_7 7 rfl rfl)
theorem dX0_pooled_171 : decode cX0_pooled 171 = .ok (.istore 9, 2) := dk_54 9 (dk_at dksX0_pooled_7 8 rfl rfl)
theorem dX0_pooled_173 : decode cX0_pooled 173 = .ok (.iload 8, 2) := dk_21 8 (dk_at dksX0_pooled_7 10 rfl rfl)
theorem dX0_pooled_175 : decode cX0_pooled 175 = .ok (.iload 4, 2) := dk_21 4 (dk_at dksX0_pooled_7 12 rfl rfl)
theorem dX0_pooled_177 : decode cX0_pooled 177 = .ok (.if_icmp .lt 43, 3) := dk_161 0 43 (dk_at dksX0_pooled_7 14 rfl rfl)
theorem dX0_pooled_180 : decode cX0_pooled 180 = .ok (.iload 8, 2) := dk_21 8 (dk_at dksX0_pooled_7 17 rfl rfl)
theorem dX0_pooled_182 : decode cX0_pooled 182 = .ok (.iload 4, 2) := dk_21 4 (dk_at dksX0_pooled_7 19 rfl rfl)
theorem dX0_pooled_184 : decode cX0_pooled 184 = .ok (.if_icmp .ne 13, 3) := dk_160 0 13 (dk_at dksX0_pooled_7 21 rfl rfl)
theorem dX0_pooled_187 : decode cX0_pooled 187 = .ok (.iload 9, 2) := dk_21 9 (dk_at dksX0_pooled_8 0 rfl rfl)
theorem dX0_pooled_189 : decode cX0_pooled 189 = .ok (.iload 5, 2) := dk_21 5 (dk_at dksX0_pooled_8 2 rfl rfl)
theorem dX0_pooled_191 : decode cX0_pooled 191 = .ok (.if_icmp .lt 6, 3) := dk_161 0 6 (dk_at dksX0_pooled_8 4 rfl rfl)
theorem dX0_pooled_194 : decode cX0_pooled 194 = .ok (.goto 26, 3) := dk_167 0 26 (dk_at dksX0_pooled_8 7 rfl rfl)
theorem dX0_pooled_197 : decode cX0_pooled 197 = .ok (.iload 8, 2) := dk_21 8 (dk_at dksX0_pooled_8 10 rfl rfl)
theorem dX0_pooled_199 : decode cX0_pooled 199 = .ok (.istore 4, 2) := dk_54 4 (dk_at dksX0_pooled_8 12 rfl rfl)
theorem dX0_pooled_201 : decode cX0_pooled 201 = .ok (.iload 9, 2) := dk_21 9 (dk_at dksX0_pooled_8 14 rfl rfl)
theorem dX0_pooled_203 : decode cX0_pooled 203 = .ok (.istore 5, 2) := dk_54 5 (dk_at dksX0_pooled_8 16 rfl rfl)
theorem dX0_pooled_205 : decode cX0_pooled 205 = .ok (.aload_n 0, 1) := dk_42 (dk_at dksX0_pooled_8 18 rfl rfl)
theorem dX0_pooled_206 : decode cX0_pooled 206 = .ok (.getfield 58, 3) := dk_180 0 58 (dk_at dksX0_pooled_8 19 rfl rfl)
theorem dX0_pooled_209 : decode cX0_pooled 209 = .ok (.iconst 0, 1) := dk_3 (dk_at dksX0_pooled_8 22 rfl rfl)
theorem dX0_pooled_210 : decode cX0_pooled 210 = .ok (.aload_n 0, 1) := dk_42 (dk_at dksX0_pooled_8 23 rfl rfl)
theorem dX0_pooled_211 : decode cX0_pooled 211 = .ok (.getfield 61, 3) := dk_180 0 61 (dk_at dksX0_pooled_9 0 rfl rfl)
theorem dX0_pooled_214 : decode cX0_pooled 214 = .ok (.iconst 0, 1) := dk_3 (dk_at dksX0_pooled_9 3 rfl rfl)
theorem dX0_pooled_215 : decode cX0_pooled 215 = .ok (.bipush 6, 2) := dk_16 6 (dk_at dksX0_pooled_9 4 rfl rfl)
theorem dX0_pooled_217 : decode cX0_pooled 217 = .ok (.invokestatic 198, 3) := dk_184 0 198 (dk_at dksX0_pooled_9 6 rfl rfl)
theorem dX0_pooled_220 : decode cX0_pooled 220 = .ok (.iinc 7 1, 3) := dk_132 7 1 (dk_at dksX0_pooled_9 9 rfl rfl)
theorem dX0_pooled_223 : decode cX0_pooled 223 = .ok (.goto (-175), 3) := dk_167 255 81 (dk_at dksX0_pooled_9 12 rfl rfl)
theorem dX0_pooled_226 : decode cX0_pooled 226 = .ok (.iinc 6 1, 3) := dk_132 6 1 (dk_at dksX0_pooled_9 15 rfl rfl)
theorem dX0_pooled_229 : decode cX0_pooled 229 = .ok (.goto (-216), 3) := dk_167 255 40 (dk_at dksX0_pooled_9 18 rfl rfl)
theorem dX0_pooled_232 : decode cX0_pooled 232 = .ok (.iload 4, 2) := dk_21 4 (dk_at dksX0_pooled_9 21 rfl rfl)
theorem dX0_pooled_234 : decode cX0_pooled 234 = .ok (.ireturn, 1) := dk_172 (dk_at dksX0_pooled_9 23 rfl rfl)
abbrev cX0_laysRow : ByteArray := prog_1_method_38_code
def yX0_laysRow : MethodName := ⟨RX0, "laysRow", "(III)Z"⟩
def dkwX0_laysRow_4 : List UInt8 := [167, 255, 223, 21, 5, 172]
abbrev dktX0_laysRow_4 : List UInt8 := dkwX0_laysRow_4 ++ []
def dkwX0_laysRow_3 : List UInt8 := [42, 180, 0, 58, 28, 21, 6, 96, 46, 154, 0, 7, 4, 167, 0, 4, 3, 54, 5, 132, 6, 1]
abbrev dktX0_laysRow_3 : List UInt8 := dkwX0_laysRow_3 ++ dktX0_laysRow_4
def dkwX0_laysRow_2 : List UInt8 := [4, 167, 0, 4, 3, 54, 5, 42, 182, 0, 142, 54, 6, 21, 6, 6, 162, 0, 33, 21, 5, 153, 0, 19]
abbrev dktX0_laysRow_2 : List UInt8 := dkwX0_laysRow_2 ++ dktX0_laysRow_3
def dkwX0_laysRow_1 : List UInt8 := [21, 4, 7, 108, 54, 4, 132, 5, 255, 167, 255, 229, 42, 180, 0, 58, 28, 184, 0, 255, 29, 163, 0, 7]
abbrev dktX0_laysRow_1 : List UInt8 := dkwX0_laysRow_1 ++ dktX0_laysRow_2
def dkwX0_laysRow_0 : List UInt8 := [27, 54, 4, 5, 54, 5, 21, 5, 155, 0, 28, 42, 180, 0, 58, 28, 21, 5, 96, 21, 4, 7, 112, 79]
abbrev dktX0_laysRow_0 : List UInt8 := dkwX0_laysRow_0 ++ dktX0_laysRow_1
theorem dksX0_laysRow_0 : cX0_laysRow.data.toList.drop 0 = dktX0_laysRow_0 := by decide +kernel
theorem dksX0_laysRow_1 : cX0_laysRow.data.toList.drop 24 = dktX0_laysRow_1 := dk_seg dksX0_laysRow_0 24 rfl rfl
theorem dksX0_laysRow_2 : cX0_laysRow.data.toList.drop 48 = dktX0_laysRow_2 := dk_seg dksX0_laysRow_1 24 rfl rfl
theorem dksX0_laysRow_3 : cX0_laysRow.data.toList.drop 72 = dktX0_laysRow_3 := dk_seg dksX0_laysRow_2 24 rfl rfl
theorem dksX0_laysRow_4 : cX0_laysRow.data.toList.drop 94 = dktX0_laysRow_4 := dk_seg dksX0_laysRow_3 22 rfl rfl
theorem dX0_laysRow_0 : decode cX0_laysRow 0 = .ok (.iload_n 1, 1) := dk_27 (dk_at dksX0_laysRow_0 0 rfl rfl)
theorem dX0_laysRow_1 : decode cX0_laysRow 1 = .ok (.istore 4, 2) := dk_54 4 (dk_at dksX0_laysRow_0 1 rfl rfl)
theorem dX0_laysRow_3 : decode cX0_laysRow 3 = .ok (.iconst 2, 1) := dk_5 (dk_at dksX0_laysRow_0 3 rfl rfl)
theorem dX0_laysRow_4 : decode cX0_laysRow 4 = .ok (.istore 5, 2) := dk_54 5 (dk_at dksX0_laysRow_0 4 rfl rfl)
theorem dX0_laysRow_6 : decode cX0_laysRow 6 = .ok (.iload 5, 2) := dk_21 5 (dk_at dksX0_laysRow_0 6 rfl rfl)
theorem dX0_laysRow_8 : decode cX0_laysRow 8 = .ok (.ifCond .lt 28, 3) := dk_155 0 28 (dk_at dksX0_laysRow_0 8 rfl rfl)
theorem dX0_laysRow_11 : decode cX0_laysRow 11 = .ok (.aload_n 0, 1) := dk_42 (dk_at dksX0_laysRow_0 11 rfl rfl)
theorem dX0_laysRow_12 : decode cX0_laysRow 12 = .ok (.getfield 58, 3) := dk_180 0 58 (dk_at dksX0_laysRow_0 12 rfl rfl)
theorem dX0_laysRow_15 : decode cX0_laysRow 15 = .ok (.iload_n 2, 1) := dk_28 (dk_at dksX0_laysRow_0 15 rfl rfl)
theorem dX0_laysRow_16 : decode cX0_laysRow 16 = .ok (.iload 5, 2) := dk_21 5 (dk_at dksX0_laysRow_0 16 rfl rfl)
theorem dX0_laysRow_18 : decode cX0_laysRow 18 = .ok (.iadd, 1) := dk_96 (dk_at dksX0_laysRow_0 18 rfl rfl)
theorem dX0_laysRow_19 : decode cX0_laysRow 19 = .ok (.iload 4, 2) := dk_21 4 (dk_at dksX0_laysRow_0 19 rfl rfl)
theorem dX0_laysRow_21 : decode cX0_laysRow 21 = .ok (.iconst 4, 1) := dk_7 (dk_at dksX0_laysRow_0 21 rfl rfl)
theorem dX0_laysRow_22 : decode cX0_laysRow 22 = .ok (.irem, 1) := dk_112 (dk_at dksX0_laysRow_0 22 rfl rfl)
theorem dX0_laysRow_23 : decode cX0_laysRow 23 = .ok (.iastore, 1) := dk_79 (dk_at dksX0_laysRow_0 23 rfl rfl)
theorem dX0_laysRow_24 : decode cX0_laysRow 24 = .ok (.iload 4, 2) := dk_21 4 (dk_at dksX0_laysRow_1 0 rfl rfl)
theorem dX0_laysRow_26 : decode cX0_laysRow 26 = .ok (.iconst 4, 1) := dk_7 (dk_at dksX0_laysRow_1 2 rfl rfl)
theorem dX0_laysRow_27 : decode cX0_laysRow 27 = .ok (.idiv, 1) := dk_108 (dk_at dksX0_laysRow_1 3 rfl rfl)
theorem dX0_laysRow_28 : decode cX0_laysRow 28 = .ok (.istore 4, 2) := dk_54 4 (dk_at dksX0_laysRow_1 4 rfl rfl)
theorem dX0_laysRow_30 : decode cX0_laysRow 30 = .ok (.iinc 5 (-1), 3) := dk_132 5 255 (dk_at dksX0_laysRow_1 6 rfl rfl)
theorem dX0_laysRow_33 : decode cX0_laysRow 33 = .ok (.goto (-27), 3) := dk_167 255 229 (dk_at dksX0_laysRow_1 9 rfl rfl)
theorem dX0_laysRow_36 : decode cX0_laysRow 36 = .ok (.aload_n 0, 1) := dk_42 (dk_at dksX0_laysRow_1 12 rfl rfl)
theorem dX0_laysRow_37 : decode cX0_laysRow 37 = .ok (.getfield 58, 3) := dk_180 0 58 (dk_at dksX0_laysRow_1 13 rfl rfl)
theorem dX0_laysRow_40 : decode cX0_laysRow 40 = .ok (.iload_n 2, 1) := dk_28 (dk_at dksX0_laysRow_1 16 rfl rfl)
theorem dX0_laysRow_41 : decode cX0_laysRow 41 = .ok (.invokestatic 255, 3) := dk_184 0 255 (dk_at dksX0_laysRow_1 17 rfl rfl)
theorem dX0_laysRow_44 : decode cX0_laysRow 44 = .ok (.iload_n 3, 1) := dk_29 (dk_at dksX0_laysRow_1 20 rfl rfl)
theorem dX0_laysRow_45 : decode cX0_laysRow 45 = .ok (.if_icmp .gt 7, 3) := dk_163 0 7 (dk_at dksX0_laysRow_1 21 rfl rfl)
theorem dX0_laysRow_48 : decode cX0_laysRow 48 = .ok (.iconst 1, 1) := dk_4 (dk_at dksX0_laysRow_2 0 rfl rfl)
theorem dX0_laysRow_49 : decode cX0_laysRow 49 = .ok (.goto 4, 3) := dk_167 0 4 (dk_at dksX0_laysRow_2 1 rfl rfl)
theorem dX0_laysRow_52 : decode cX0_laysRow 52 = .ok (.iconst 0, 1) := dk_3 (dk_at dksX0_laysRow_2 4 rfl rfl)
theorem dX0_laysRow_53 : decode cX0_laysRow 53 = .ok (.istore 5, 2) := dk_54 5 (dk_at dksX0_laysRow_2 5 rfl rfl)
theorem dX0_laysRow_55 : decode cX0_laysRow 55 = .ok (.aload_n 0, 1) := dk_42 (dk_at dksX0_laysRow_2 7 rfl rfl)
theorem dX0_laysRow_56 : decode cX0_laysRow 56 = .ok (.invokevirtual 142, 3) := dk_182 0 142 (dk_at dksX0_laysRow_2 8 rfl rfl)
theorem dX0_laysRow_59 : decode cX0_laysRow 59 = .ok (.istore 6, 2) := dk_54 6 (dk_at dksX0_laysRow_2 11 rfl rfl)
theorem dX0_laysRow_61 : decode cX0_laysRow 61 = .ok (.iload 6, 2) := dk_21 6 (dk_at dksX0_laysRow_2 13 rfl rfl)
theorem dX0_laysRow_63 : decode cX0_laysRow 63 = .ok (.iconst 3, 1) := dk_6 (dk_at dksX0_laysRow_2 15 rfl rfl)
theorem dX0_laysRow_64 : decode cX0_laysRow 64 = .ok (.if_icmp .ge 33, 3) := dk_162 0 33 (dk_at dksX0_laysRow_2 16 rfl rfl)
theorem dX0_laysRow_67 : decode cX0_laysRow 67 = .ok (.iload 5, 2) := dk_21 5 (dk_at dksX0_laysRow_2 19 rfl rfl)
theorem dX0_laysRow_69 : decode cX0_laysRow 69 = .ok (.ifCond .eq 19, 3) := dk_153 0 19 (dk_at dksX0_laysRow_2 21 rfl rfl)
theorem dX0_laysRow_72 : decode cX0_laysRow 72 = .ok (.aload_n 0, 1) := dk_42 (dk_at dksX0_laysRow_3 0 rfl rfl)
theorem dX0_laysRow_73 : decode cX0_laysRow 73 = .ok (.getfield 58, 3) := dk_180 0 58 (dk_at dksX0_laysRow_3 1 rfl rfl)
theorem dX0_laysRow_76 : decode cX0_laysRow 76 = .ok (.iload_n 2, 1) := dk_28 (dk_at dksX0_laysRow_3 4 rfl rfl)
theorem dX0_laysRow_77 : decode cX0_laysRow 77 = .ok (.iload 6, 2) := dk_21 6 (dk_at dksX0_laysRow_3 5 rfl rfl)
theorem dX0_laysRow_79 : decode cX0_laysRow 79 = .ok (.iadd, 1) := dk_96 (dk_at dksX0_laysRow_3 7 rfl rfl)
theorem dX0_laysRow_80 : decode cX0_laysRow 80 = .ok (.iaload, 1) := dk_46 (dk_at dksX0_laysRow_3 8 rfl rfl)
theorem dX0_laysRow_81 : decode cX0_laysRow 81 = .ok (.ifCond .ne 7, 3) := dk_154 0 7 (dk_at dksX0_laysRow_3 9 rfl rfl)
theorem dX0_laysRow_84 : decode cX0_laysRow 84 = .ok (.iconst 1, 1) := dk_4 (dk_at dksX0_laysRow_3 12 rfl rfl)
theorem dX0_laysRow_85 : decode cX0_laysRow 85 = .ok (.goto 4, 3) := dk_167 0 4 (dk_at dksX0_laysRow_3 13 rfl rfl)
theorem dX0_laysRow_88 : decode cX0_laysRow 88 = .ok (.iconst 0, 1) := dk_3 (dk_at dksX0_laysRow_3 16 rfl rfl)
theorem dX0_laysRow_89 : decode cX0_laysRow 89 = .ok (.istore 5, 2) := dk_54 5 (dk_at dksX0_laysRow_3 17 rfl rfl)
theorem dX0_laysRow_91 : decode cX0_laysRow 91 = .ok (.iinc 6 1, 3) := dk_132 6 1 (dk_at dksX0_laysRow_3 19 rfl rfl)
theorem dX0_laysRow_94 : decode cX0_laysRow 94 = .ok (.goto (-33), 3) := dk_167 255 223 (dk_at dksX0_laysRow_4 0 rfl rfl)
theorem dX0_laysRow_97 : decode cX0_laysRow 97 = .ok (.iload 5, 2) := dk_21 5 (dk_at dksX0_laysRow_4 3 rfl rfl)
theorem dX0_laysRow_99 : decode cX0_laysRow 99 = .ok (.ireturn, 1) := dk_172 (dk_at dksX0_laysRow_4 5 rfl rfl)
abbrev cX0_arePooled : ByteArray := prog_1_method_39_code
def yX0_arePooled : MethodName := ⟨RX0, "arePooled", "(II)Z"⟩
def dkwX0_arePooled_2 : List UInt8 := [21, 4, 182, 0, 182, 96, 163, 0, 7, 4, 167, 0, 4, 3, 62, 132, 4, 1, 167, 255, 196, 29, 172]
abbrev dktX0_arePooled_2 : List UInt8 := dkwX0_arePooled_2 ++ []
def dkwX0_arePooled_1 : List UInt8 := [180, 0, 58, 6, 21, 4, 96, 46, 96, 42, 180, 0, 31, 27, 21, 4, 182, 0, 182, 42, 180, 0, 31, 28]
abbrev dktX0_arePooled_1 : List UInt8 := dkwX0_arePooled_1 ++ dktX0_arePooled_2
def dkwX0_arePooled_0 : List UInt8 := [4, 62, 3, 54, 4, 21, 4, 6, 162, 0, 60, 29, 153, 0, 48, 42, 180, 0, 58, 21, 4, 46, 42]
abbrev dktX0_arePooled_0 : List UInt8 := dkwX0_arePooled_0 ++ dktX0_arePooled_1
theorem dksX0_arePooled_0 : cX0_arePooled.data.toList.drop 0 = dktX0_arePooled_0 := by decide +kernel
theorem dksX0_arePooled_1 : cX0_arePooled.data.toList.drop 23 = dktX0_arePooled_1 := dk_seg dksX0_arePooled_0 23 rfl rfl
theorem dksX0_arePooled_2 : cX0_arePooled.data.toList.drop 47 = dktX0_arePooled_2 := dk_seg dksX0_arePooled_1 24 rfl rfl
theorem dX0_arePooled_0 : decode cX0_arePooled 0 = .ok (.iconst 1, 1) := dk_4 (dk_at dksX0_arePooled_0 0 rfl rfl)
theorem dX0_arePooled_1 : decode cX0_arePooled 1 = .ok (.istore_n 3, 1) := dk_62 (dk_at dksX0_arePooled_0 1 rfl rfl)
theorem dX0_arePooled_2 : decode cX0_arePooled 2 = .ok (.iconst 0, 1) := dk_3 (dk_at dksX0_arePooled_0 2 rfl rfl)
theorem dX0_arePooled_3 : decode cX0_arePooled 3 = .ok (.istore 4, 2) := dk_54 4 (dk_at dksX0_arePooled_0 3 rfl rfl)
theorem dX0_arePooled_5 : decode cX0_arePooled 5 = .ok (.iload 4, 2) := dk_21 4 (dk_at dksX0_arePooled_0 5 rfl rfl)
theorem dX0_arePooled_7 : decode cX0_arePooled 7 = .ok (.iconst 3, 1) := dk_6 (dk_at dksX0_arePooled_0 7 rfl rfl)
theorem dX0_arePooled_8 : decode cX0_arePooled 8 = .ok (.if_icmp .ge 60, 3) := dk_162 0 60 (dk_at dksX0_arePooled_0 8 rfl rfl)
theorem dX0_arePooled_11 : decode cX0_arePooled 11 = .ok (.iload_n 3, 1) := dk_29 (dk_at dksX0_arePooled_0 11 rfl rfl)
theorem dX0_arePooled_12 : decode cX0_arePooled 12 = .ok (.ifCond .eq 48, 3) := dk_153 0 48 (dk_at dksX0_arePooled_0 12 rfl rfl)
theorem dX0_arePooled_15 : decode cX0_arePooled 15 = .ok (.aload_n 0, 1) := dk_42 (dk_at dksX0_arePooled_0 15 rfl rfl)
theorem dX0_arePooled_16 : decode cX0_arePooled 16 = .ok (.getfield 58, 3) := dk_180 0 58 (dk_at dksX0_arePooled_0 16 rfl rfl)
theorem dX0_arePooled_19 : decode cX0_arePooled 19 = .ok (.iload 4, 2) := dk_21 4 (dk_at dksX0_arePooled_0 19 rfl rfl)
theorem dX0_arePooled_21 : decode cX0_arePooled 21 = .ok (.iaload, 1) := dk_46 (dk_at dksX0_arePooled_0 21 rfl rfl)
theorem dX0_arePooled_22 : decode cX0_arePooled 22 = .ok (.aload_n 0, 1) := dk_42 (dk_at dksX0_arePooled_0 22 rfl rfl)
theorem dX0_arePooled_23 : decode cX0_arePooled 23 = .ok (.getfield 58, 3) := dk_180 0 58 (dk_at dksX0_arePooled_1 0 rfl rfl)
theorem dX0_arePooled_26 : decode cX0_arePooled 26 = .ok (.iconst 3, 1) := dk_6 (dk_at dksX0_arePooled_1 3 rfl rfl)
theorem dX0_arePooled_27 : decode cX0_arePooled 27 = .ok (.iload 4, 2) := dk_21 4 (dk_at dksX0_arePooled_1 4 rfl rfl)
theorem dX0_arePooled_29 : decode cX0_arePooled 29 = .ok (.iadd, 1) := dk_96 (dk_at dksX0_arePooled_1 6 rfl rfl)
theorem dX0_arePooled_30 : decode cX0_arePooled 30 = .ok (.iaload, 1) := dk_46 (dk_at dksX0_arePooled_1 7 rfl rfl)
theorem dX0_arePooled_31 : decode cX0_arePooled 31 = .ok (.iadd, 1) := dk_96 (dk_at dksX0_arePooled_1 8 rfl rfl)
theorem dX0_arePooled_32 : decode cX0_arePooled 32 = .ok (.aload_n 0, 1) := dk_42 (dk_at dksX0_arePooled_1 9 rfl rfl)
theorem dX0_arePooled_33 : decode cX0_arePooled 33 = .ok (.getfield 31, 3) := dk_180 0 31 (dk_at dksX0_arePooled_1 10 rfl rfl)
theorem dX0_arePooled_36 : decode cX0_arePooled 36 = .ok (.iload_n 1, 1) := dk_27 (dk_at dksX0_arePooled_1 13 rfl rfl)
theorem dX0_arePooled_37 : decode cX0_arePooled 37 = .ok (.iload 4, 2) := dk_21 4 (dk_at dksX0_arePooled_1 14 rfl rfl)
theorem dX0_arePooled_39 : decode cX0_arePooled 39 = .ok (.invokevirtual 182, 3) := dk_182 0 182 (dk_at dksX0_arePooled_1 16 rfl rfl)
theorem dX0_arePooled_42 : decode cX0_arePooled 42 = .ok (.aload_n 0, 1) := dk_42 (dk_at dksX0_arePooled_1 19 rfl rfl)
theorem dX0_arePooled_43 : decode cX0_arePooled 43 = .ok (.getfield 31, 3) := dk_180 0 31 (dk_at dksX0_arePooled_1 20 rfl rfl)
theorem dX0_arePooled_46 : decode cX0_arePooled 46 = .ok (.iload_n 2, 1) := dk_28 (dk_at dksX0_arePooled_1 23 rfl rfl)
theorem dX0_arePooled_47 : decode cX0_arePooled 47 = .ok (.iload 4, 2) := dk_21 4 (dk_at dksX0_arePooled_2 0 rfl rfl)
theorem dX0_arePooled_49 : decode cX0_arePooled 49 = .ok (.invokevirtual 182, 3) := dk_182 0 182 (dk_at dksX0_arePooled_2 2 rfl rfl)
theorem dX0_arePooled_52 : decode cX0_arePooled 52 = .ok (.iadd, 1) := dk_96 (dk_at dksX0_arePooled_2 5 rfl rfl)
theorem dX0_arePooled_53 : decode cX0_arePooled 53 = .ok (.if_icmp .gt 7, 3) := dk_163 0 7 (dk_at dksX0_arePooled_2 6 rfl rfl)
theorem dX0_arePooled_56 : decode cX0_arePooled 56 = .ok (.iconst 1, 1) := dk_4 (dk_at dksX0_arePooled_2 9 rfl rfl)
theorem dX0_arePooled_57 : decode cX0_arePooled 57 = .ok (.goto 4, 3) := dk_167 0 4 (dk_at dksX0_arePooled_2 10 rfl rfl)
theorem dX0_arePooled_60 : decode cX0_arePooled 60 = .ok (.iconst 0, 1) := dk_3 (dk_at dksX0_arePooled_2 13 rfl rfl)
theorem dX0_arePooled_61 : decode cX0_arePooled 61 = .ok (.istore_n 3, 1) := dk_62 (dk_at dksX0_arePooled_2 14 rfl rfl)
theorem dX0_arePooled_62 : decode cX0_arePooled 62 = .ok (.iinc 4 1, 3) := dk_132 4 1 (dk_at dksX0_arePooled_2 15 rfl rfl)
theorem dX0_arePooled_65 : decode cX0_arePooled 65 = .ok (.goto (-60), 3) := dk_167 255 196 (dk_at dksX0_arePooled_2 18 rfl rfl)
theorem dX0_arePooled_68 : decode cX0_arePooled 68 = .ok (.iload_n 3, 1) := dk_29 (dk_at dksX0_arePooled_2 21 rfl rfl)
theorem dX0_arePooled_69 : decode cX0_arePooled 69 = .ok (.ireturn, 1) := dk_172 (dk_at dksX0_arePooled_2 22 rfl rfl)
abbrev cX0_joint : ByteArray := prog_1_method_42_code
def yX0_joint : MethodName := ⟨RX0, "joint", "(II)I"⟩
def dkwX0_joint_4 : List UInt8 := [182, 0, 161, 100, 42, 180, 0, 41, 42, 180, 0, 20, 28, 182, 0, 161, 100, 172]
abbrev dktX0_joint_4 : List UInt8 := dkwX0_joint_4 ++ []
def dkwX0_joint_3 : List UInt8 := [180, 0, 52, 3, 182, 1, 6, 87, 42, 27, 28, 182, 1, 46, 42, 180, 0, 41, 42, 180, 0, 20, 27]
abbrev dktX0_joint_3 : List UInt8 := dkwX0_joint_3 ++ dktX0_joint_4
def dkwX0_joint_2 : List UInt8 := [182, 1, 6, 87, 42, 42, 180, 0, 41, 28, 3, 182, 1, 30, 42, 180, 0, 41, 42, 180, 0, 20, 28, 42]
abbrev dktX0_joint_2 : List UInt8 := dkwX0_joint_2 ++ dktX0_joint_3
def dkwX0_joint_1 : List UInt8 := [42, 42, 180, 0, 41, 27, 3, 182, 1, 30, 42, 180, 0, 41, 42, 180, 0, 20, 27, 42, 180, 0, 52, 3]
abbrev dktX0_joint_1 : List UInt8 := dkwX0_joint_1 ++ dktX0_joint_2
def dkwX0_joint_0 : List UInt8 := [42, 27, 28, 182, 0, 222, 154, 0, 6, 18, 148, 172, 42, 180, 0, 41, 42, 180, 0, 31, 182, 0, 204, 87]
abbrev dktX0_joint_0 : List UInt8 := dkwX0_joint_0 ++ dktX0_joint_1
theorem dksX0_joint_0 : cX0_joint.data.toList.drop 0 = dktX0_joint_0 := by decide +kernel
theorem dksX0_joint_1 : cX0_joint.data.toList.drop 24 = dktX0_joint_1 := dk_seg dksX0_joint_0 24 rfl rfl
theorem dksX0_joint_2 : cX0_joint.data.toList.drop 48 = dktX0_joint_2 := dk_seg dksX0_joint_1 24 rfl rfl
theorem dksX0_joint_3 : cX0_joint.data.toList.drop 72 = dktX0_joint_3 := dk_seg dksX0_joint_2 24 rfl rfl
theorem dksX0_joint_4 : cX0_joint.data.toList.drop 95 = dktX0_joint_4 := dk_seg dksX0_joint_3 23 rfl rfl
theorem dX0_joint_0 : decode cX0_joint 0 = .ok (.aload_n 0, 1) := dk_42 (dk_at dksX0_joint_0 0 rfl rfl)
theorem dX0_joint_1 : decode cX0_joint 1 = .ok (.iload_n 1, 1) := dk_27 (dk_at dksX0_joint_0 1 rfl rfl)
theorem dX0_joint_2 : decode cX0_joint 2 = .ok (.iload_n 2, 1) := dk_28 (dk_at dksX0_joint_0 2 rfl rfl)
theorem dX0_joint_3 : decode cX0_joint 3 = .ok (.invokevirtual 222, 3) := dk_182 0 222 (dk_at dksX0_joint_0 3 rfl rfl)
theorem dX0_joint_6 : decode cX0_joint 6 = .ok (.ifCond .ne 6, 3) := dk_154 0 6 (dk_at dksX0_joint_0 6 rfl rfl)
theorem dX0_joint_9 : decode cX0_joint 9 = .ok (.ldc 148, 2) := dk_18 148 (dk_at dksX0_joint_0 9 rfl rfl)
theorem dX0_joint_11 : decode cX0_joint 11 = .ok (.ireturn, 1) := dk_172 (dk_at dksX0_joint_0 11 rfl rfl)
theorem dX0_joint_12 : decode cX0_joint 12 = .ok (.aload_n 0, 1) := dk_42 (dk_at dksX0_joint_0 12 rfl rfl)
theorem dX0_joint_13 : decode cX0_joint 13 = .ok (.getfield 41, 3) := dk_180 0 41 (dk_at dksX0_joint_0 13 rfl rfl)
theorem dX0_joint_16 : decode cX0_joint 16 = .ok (.aload_n 0, 1) := dk_42 (dk_at dksX0_joint_0 16 rfl rfl)
theorem dX0_joint_17 : decode cX0_joint 17 = .ok (.getfield 31, 3) := dk_180 0 31 (dk_at dksX0_joint_0 17 rfl rfl)
theorem dX0_joint_20 : decode cX0_joint 20 = .ok (.invokevirtual 204, 3) := dk_182 0 204 (dk_at dksX0_joint_0 20 rfl rfl)
theorem dX0_joint_23 : decode cX0_joint 23 = .ok (.pop, 1) := dk_87 (dk_at dksX0_joint_0 23 rfl rfl)
theorem dX0_joint_24 : decode cX0_joint 24 = .ok (.aload_n 0, 1) := dk_42 (dk_at dksX0_joint_1 0 rfl rfl)
theorem dX0_joint_25 : decode cX0_joint 25 = .ok (.aload_n 0, 1) := dk_42 (dk_at dksX0_joint_1 1 rfl rfl)
theorem dX0_joint_26 : decode cX0_joint 26 = .ok (.getfield 41, 3) := dk_180 0 41 (dk_at dksX0_joint_1 2 rfl rfl)
theorem dX0_joint_29 : decode cX0_joint 29 = .ok (.iload_n 1, 1) := dk_27 (dk_at dksX0_joint_1 5 rfl rfl)
theorem dX0_joint_30 : decode cX0_joint 30 = .ok (.iconst 0, 1) := dk_3 (dk_at dksX0_joint_1 6 rfl rfl)
theorem dX0_joint_31 : decode cX0_joint 31 = .ok (.invokevirtual 286, 3) := dk_182 1 30 (dk_at dksX0_joint_1 7 rfl rfl)
theorem dX0_joint_34 : decode cX0_joint 34 = .ok (.aload_n 0, 1) := dk_42 (dk_at dksX0_joint_1 10 rfl rfl)
theorem dX0_joint_35 : decode cX0_joint 35 = .ok (.getfield 41, 3) := dk_180 0 41 (dk_at dksX0_joint_1 11 rfl rfl)
theorem dX0_joint_38 : decode cX0_joint 38 = .ok (.aload_n 0, 1) := dk_42 (dk_at dksX0_joint_1 14 rfl rfl)
theorem dX0_joint_39 : decode cX0_joint 39 = .ok (.getfield 20, 3) := dk_180 0 20 (dk_at dksX0_joint_1 15 rfl rfl)
theorem dX0_joint_42 : decode cX0_joint 42 = .ok (.iload_n 1, 1) := dk_27 (dk_at dksX0_joint_1 18 rfl rfl)
theorem dX0_joint_43 : decode cX0_joint 43 = .ok (.aload_n 0, 1) := dk_42 (dk_at dksX0_joint_1 19 rfl rfl)
theorem dX0_joint_44 : decode cX0_joint 44 = .ok (.getfield 52, 3) := dk_180 0 52 (dk_at dksX0_joint_1 20 rfl rfl)
theorem dX0_joint_47 : decode cX0_joint 47 = .ok (.iconst 0, 1) := dk_3 (dk_at dksX0_joint_1 23 rfl rfl)
theorem dX0_joint_48 : decode cX0_joint 48 = .ok (.invokevirtual 262, 3) := dk_182 1 6 (dk_at dksX0_joint_2 0 rfl rfl)
theorem dX0_joint_51 : decode cX0_joint 51 = .ok (.pop, 1) := dk_87 (dk_at dksX0_joint_2 3 rfl rfl)
theorem dX0_joint_52 : decode cX0_joint 52 = .ok (.aload_n 0, 1) := dk_42 (dk_at dksX0_joint_2 4 rfl rfl)
theorem dX0_joint_53 : decode cX0_joint 53 = .ok (.aload_n 0, 1) := dk_42 (dk_at dksX0_joint_2 5 rfl rfl)
theorem dX0_joint_54 : decode cX0_joint 54 = .ok (.getfield 41, 3) := dk_180 0 41 (dk_at dksX0_joint_2 6 rfl rfl)
theorem dX0_joint_57 : decode cX0_joint 57 = .ok (.iload_n 2, 1) := dk_28 (dk_at dksX0_joint_2 9 rfl rfl)
theorem dX0_joint_58 : decode cX0_joint 58 = .ok (.iconst 0, 1) := dk_3 (dk_at dksX0_joint_2 10 rfl rfl)
theorem dX0_joint_59 : decode cX0_joint 59 = .ok (.invokevirtual 286, 3) := dk_182 1 30 (dk_at dksX0_joint_2 11 rfl rfl)
theorem dX0_joint_62 : decode cX0_joint 62 = .ok (.aload_n 0, 1) := dk_42 (dk_at dksX0_joint_2 14 rfl rfl)
theorem dX0_joint_63 : decode cX0_joint 63 = .ok (.getfield 41, 3) := dk_180 0 41 (dk_at dksX0_joint_2 15 rfl rfl)
theorem dX0_joint_66 : decode cX0_joint 66 = .ok (.aload_n 0, 1) := dk_42 (dk_at dksX0_joint_2 18 rfl rfl)
theorem dX0_joint_67 : decode cX0_joint 67 = .ok (.getfield 20, 3) := dk_180 0 20 (dk_at dksX0_joint_2 19 rfl rfl)
theorem dX0_joint_70 : decode cX0_joint 70 = .ok (.iload_n 2, 1) := dk_28 (dk_at dksX0_joint_2 22 rfl rfl)
theorem dX0_joint_71 : decode cX0_joint 71 = .ok (.aload_n 0, 1) := dk_42 (dk_at dksX0_joint_2 23 rfl rfl)
theorem dX0_joint_72 : decode cX0_joint 72 = .ok (.getfield 52, 3) := dk_180 0 52 (dk_at dksX0_joint_3 0 rfl rfl)
theorem dX0_joint_75 : decode cX0_joint 75 = .ok (.iconst 0, 1) := dk_3 (dk_at dksX0_joint_3 3 rfl rfl)
theorem dX0_joint_76 : decode cX0_joint 76 = .ok (.invokevirtual 262, 3) := dk_182 1 6 (dk_at dksX0_joint_3 4 rfl rfl)
theorem dX0_joint_79 : decode cX0_joint 79 = .ok (.pop, 1) := dk_87 (dk_at dksX0_joint_3 7 rfl rfl)
theorem dX0_joint_80 : decode cX0_joint 80 = .ok (.aload_n 0, 1) := dk_42 (dk_at dksX0_joint_3 8 rfl rfl)
theorem dX0_joint_81 : decode cX0_joint 81 = .ok (.iload_n 1, 1) := dk_27 (dk_at dksX0_joint_3 9 rfl rfl)
theorem dX0_joint_82 : decode cX0_joint 82 = .ok (.iload_n 2, 1) := dk_28 (dk_at dksX0_joint_3 10 rfl rfl)
theorem dX0_joint_83 : decode cX0_joint 83 = .ok (.invokevirtual 302, 3) := dk_182 1 46 (dk_at dksX0_joint_3 11 rfl rfl)
theorem dX0_joint_86 : decode cX0_joint 86 = .ok (.aload_n 0, 1) := dk_42 (dk_at dksX0_joint_3 14 rfl rfl)
theorem dX0_joint_87 : decode cX0_joint 87 = .ok (.getfield 41, 3) := dk_180 0 41 (dk_at dksX0_joint_3 15 rfl rfl)
theorem dX0_joint_90 : decode cX0_joint 90 = .ok (.aload_n 0, 1) := dk_42 (dk_at dksX0_joint_3 18 rfl rfl)
theorem dX0_joint_91 : decode cX0_joint 91 = .ok (.getfield 20, 3) := dk_180 0 20 (dk_at dksX0_joint_3 19 rfl rfl)
theorem dX0_joint_94 : decode cX0_joint 94 = .ok (.iload_n 1, 1) := dk_27 (dk_at dksX0_joint_3 22 rfl rfl)
theorem dX0_joint_95 : decode cX0_joint 95 = .ok (.invokevirtual 161, 3) := dk_182 0 161 (dk_at dksX0_joint_4 0 rfl rfl)
theorem dX0_joint_98 : decode cX0_joint 98 = .ok (.isub, 1) := dk_100 (dk_at dksX0_joint_4 3 rfl rfl)
theorem dX0_joint_99 : decode cX0_joint 99 = .ok (.aload_n 0, 1) := dk_42 (dk_at dksX0_joint_4 4 rfl rfl)
theorem dX0_joint_100 : decode cX0_joint 100 = .ok (.getfield 41, 3) := dk_180 0 41 (dk_at dksX0_joint_4 5 rfl rfl)
theorem dX0_joint_103 : decode cX0_joint 103 = .ok (.aload_n 0, 1) := dk_42 (dk_at dksX0_joint_4 8 rfl rfl)
theorem dX0_joint_104 : decode cX0_joint 104 = .ok (.getfield 20, 3) := dk_180 0 20 (dk_at dksX0_joint_4 9 rfl rfl)
theorem dX0_joint_107 : decode cX0_joint 107 = .ok (.iload_n 2, 1) := dk_28 (dk_at dksX0_joint_4 12 rfl rfl)
theorem dX0_joint_108 : decode cX0_joint 108 = .ok (.invokevirtual 161, 3) := dk_182 0 161 (dk_at dksX0_joint_4 13 rfl rfl)
theorem dX0_joint_111 : decode cX0_joint 111 = .ok (.isub, 1) := dk_100 (dk_at dksX0_joint_4 16 rfl rfl)
theorem dX0_joint_112 : decode cX0_joint 112 = .ok (.ireturn, 1) := dk_172 (dk_at dksX0_joint_4 17 rfl rfl)
abbrev cX0_rest : ByteArray := prog_1_method_45_code
def yX0_rest : MethodName := ⟨RX0, "rest", "()I"⟩
def dkwX0_rest_3 : List UInt8 := [132, 2, 1, 167, 255, 229, 42, 42, 182, 0, 126, 181, 0, 109, 27, 172, 132, 1, 1, 167, 255, 195, 2, 172]
abbrev dktX0_rest_3 : List UInt8 := dkwX0_rest_3 ++ []
def dkwX0_rest_2 : List UInt8 := [42, 182, 0, 126, 162, 0, 25, 42, 180, 0, 55, 28, 42, 180, 0, 64, 6, 28, 104, 184, 0, 255, 79]
abbrev dktX0_rest_2 : List UInt8 := dkwX0_rest_2 ++ dktX0_rest_3
def dkwX0_rest_1 : List UInt8 := [167, 255, 240, 3, 60, 27, 16, 20, 163, 0, 61, 42, 182, 1, 52, 153, 0, 6, 167, 0, 45, 3, 61, 28]
abbrev dktX0_rest_1 : List UInt8 := dkwX0_rest_1 ++ dktX0_rest_2
def dkwX0_rest_0 : List UInt8 := [42, 3, 181, 0, 109, 3, 60, 27, 16, 15, 162, 0, 16, 42, 180, 0, 64, 27, 3, 79, 132, 1, 1]
abbrev dktX0_rest_0 : List UInt8 := dkwX0_rest_0 ++ dktX0_rest_1
theorem dksX0_rest_0 : cX0_rest.data.toList.drop 0 = dktX0_rest_0 := by decide +kernel
theorem dksX0_rest_1 : cX0_rest.data.toList.drop 23 = dktX0_rest_1 := dk_seg dksX0_rest_0 23 rfl rfl
theorem dksX0_rest_2 : cX0_rest.data.toList.drop 47 = dktX0_rest_2 := dk_seg dksX0_rest_1 24 rfl rfl
theorem dksX0_rest_3 : cX0_rest.data.toList.drop 70 = dktX0_rest_3 := dk_seg dksX0_rest_2 23 rfl rfl
theorem dX0_rest_0 : decode cX0_rest 0 = .ok (.aload_n 0, 1) := dk_42 (dk_at dksX0_rest_0 0 rfl rfl)
theorem dX0_rest_1 : decode cX0_rest 1 = .ok (.iconst 0, 1) := dk_3 (dk_at dksX0_rest_0 1 rfl rfl)
theorem dX0_rest_2 : decode cX0_rest 2 = .ok (.putfield 109, 3) := dk_181 0 109 (dk_at dksX0_rest_0 2 rfl rfl)
theorem dX0_rest_5 : decode cX0_rest 5 = .ok (.iconst 0, 1) := dk_3 (dk_at dksX0_rest_0 5 rfl rfl)
theorem dX0_rest_6 : decode cX0_rest 6 = .ok (.istore_n 1, 1) := dk_60 (dk_at dksX0_rest_0 6 rfl rfl)
theorem dX0_rest_7 : decode cX0_rest 7 = .ok (.iload_n 1, 1) := dk_27 (dk_at dksX0_rest_0 7 rfl rfl)
theorem dX0_rest_8 : decode cX0_rest 8 = .ok (.bipush 15, 2) := dk_16 15 (dk_at dksX0_rest_0 8 rfl rfl)
theorem dX0_rest_10 : decode cX0_rest 10 = .ok (.if_icmp .ge 16, 3) := dk_162 0 16 (dk_at dksX0_rest_0 10 rfl rfl)
theorem dX0_rest_13 : decode cX0_rest 13 = .ok (.aload_n 0, 1) := dk_42 (dk_at dksX0_rest_0 13 rfl rfl)
theorem dX0_rest_14 : decode cX0_rest 14 = .ok (.getfield 64, 3) := dk_180 0 64 (dk_at dksX0_rest_0 14 rfl rfl)
theorem dX0_rest_17 : decode cX0_rest 17 = .ok (.iload_n 1, 1) := dk_27 (dk_at dksX0_rest_0 17 rfl rfl)
theorem dX0_rest_18 : decode cX0_rest 18 = .ok (.iconst 0, 1) := dk_3 (dk_at dksX0_rest_0 18 rfl rfl)
theorem dX0_rest_19 : decode cX0_rest 19 = .ok (.iastore, 1) := dk_79 (dk_at dksX0_rest_0 19 rfl rfl)
theorem dX0_rest_20 : decode cX0_rest 20 = .ok (.iinc 1 1, 3) := dk_132 1 1 (dk_at dksX0_rest_0 20 rfl rfl)
theorem dX0_rest_23 : decode cX0_rest 23 = .ok (.goto (-16), 3) := dk_167 255 240 (dk_at dksX0_rest_1 0 rfl rfl)
theorem dX0_rest_26 : decode cX0_rest 26 = .ok (.iconst 0, 1) := dk_3 (dk_at dksX0_rest_1 3 rfl rfl)
theorem dX0_rest_27 : decode cX0_rest 27 = .ok (.istore_n 1, 1) := dk_60 (dk_at dksX0_rest_1 4 rfl rfl)
theorem dX0_rest_28 : decode cX0_rest 28 = .ok (.iload_n 1, 1) := dk_27 (dk_at dksX0_rest_1 5 rfl rfl)
theorem dX0_rest_29 : decode cX0_rest 29 = .ok (.bipush 20, 2) := dk_16 20 (dk_at dksX0_rest_1 6 rfl rfl)
theorem dX0_rest_31 : decode cX0_rest 31 = .ok (.if_icmp .gt 61, 3) := dk_163 0 61 (dk_at dksX0_rest_1 8 rfl rfl)
theorem dX0_rest_34 : decode cX0_rest 34 = .ok (.aload_n 0, 1) := dk_42 (dk_at dksX0_rest_1 11 rfl rfl)
theorem dX0_rest_35 : decode cX0_rest 35 = .ok (.invokevirtual 308, 3) := dk_182 1 52 (dk_at dksX0_rest_1 12 rfl rfl)
theorem dX0_rest_38 : decode cX0_rest 38 = .ok (.ifCond .eq 6, 3) := dk_153 0 6 (dk_at dksX0_rest_1 15 rfl rfl)
theorem dX0_rest_41 : decode cX0_rest 41 = .ok (.goto 45, 3) := dk_167 0 45 (dk_at dksX0_rest_1 18 rfl rfl)
theorem dX0_rest_44 : decode cX0_rest 44 = .ok (.iconst 0, 1) := dk_3 (dk_at dksX0_rest_1 21 rfl rfl)
theorem dX0_rest_45 : decode cX0_rest 45 = .ok (.istore_n 2, 1) := dk_61 (dk_at dksX0_rest_1 22 rfl rfl)
theorem dX0_rest_46 : decode cX0_rest 46 = .ok (.iload_n 2, 1) := dk_28 (dk_at dksX0_rest_1 23 rfl rfl)
theorem dX0_rest_47 : decode cX0_rest 47 = .ok (.aload_n 0, 1) := dk_42 (dk_at dksX0_rest_2 0 rfl rfl)
theorem dX0_rest_48 : decode cX0_rest 48 = .ok (.invokevirtual 126, 3) := dk_182 0 126 (dk_at dksX0_rest_2 1 rfl rfl)
theorem dX0_rest_51 : decode cX0_rest 51 = .ok (.if_icmp .ge 25, 3) := dk_162 0 25 (dk_at dksX0_rest_2 4 rfl rfl)
theorem dX0_rest_54 : decode cX0_rest 54 = .ok (.aload_n 0, 1) := dk_42 (dk_at dksX0_rest_2 7 rfl rfl)
theorem dX0_rest_55 : decode cX0_rest 55 = .ok (.getfield 55, 3) := dk_180 0 55 (dk_at dksX0_rest_2 8 rfl rfl)
theorem dX0_rest_58 : decode cX0_rest 58 = .ok (.iload_n 2, 1) := dk_28 (dk_at dksX0_rest_2 11 rfl rfl)
theorem dX0_rest_59 : decode cX0_rest 59 = .ok (.aload_n 0, 1) := dk_42 (dk_at dksX0_rest_2 12 rfl rfl)
theorem dX0_rest_60 : decode cX0_rest 60 = .ok (.getfield 64, 3) := dk_180 0 64 (dk_at dksX0_rest_2 13 rfl rfl)
theorem dX0_rest_63 : decode cX0_rest 63 = .ok (.iconst 3, 1) := dk_6 (dk_at dksX0_rest_2 16 rfl rfl)
theorem dX0_rest_64 : decode cX0_rest 64 = .ok (.iload_n 2, 1) := dk_28 (dk_at dksX0_rest_2 17 rfl rfl)
theorem dX0_rest_65 : decode cX0_rest 65 = .ok (.imul, 1) := dk_104 (dk_at dksX0_rest_2 18 rfl rfl)
theorem dX0_rest_66 : decode cX0_rest 66 = .ok (.invokestatic 255, 3) := dk_184 0 255 (dk_at dksX0_rest_2 19 rfl rfl)
theorem dX0_rest_69 : decode cX0_rest 69 = .ok (.iastore, 1) := dk_79 (dk_at dksX0_rest_2 22 rfl rfl)
theorem dX0_rest_70 : decode cX0_rest 70 = .ok (.iinc 2 1, 3) := dk_132 2 1 (dk_at dksX0_rest_3 0 rfl rfl)
theorem dX0_rest_73 : decode cX0_rest 73 = .ok (.goto (-27), 3) := dk_167 255 229 (dk_at dksX0_rest_3 3 rfl rfl)
theorem dX0_rest_76 : decode cX0_rest 76 = .ok (.aload_n 0, 1) := dk_42 (dk_at dksX0_rest_3 6 rfl rfl)
theorem dX0_rest_77 : decode cX0_rest 77 = .ok (.aload_n 0, 1) := dk_42 (dk_at dksX0_rest_3 7 rfl rfl)
theorem dX0_rest_78 : decode cX0_rest 78 = .ok (.invokevirtual 126, 3) := dk_182 0 126 (dk_at dksX0_rest_3 8 rfl rfl)
theorem dX0_rest_81 : decode cX0_rest 81 = .ok (.putfield 109, 3) := dk_181 0 109 (dk_at dksX0_rest_3 11 rfl rfl)
theorem dX0_rest_84 : decode cX0_rest 84 = .ok (.iload_n 1, 1) := dk_27 (dk_at dksX0_rest_3 14 rfl rfl)
theorem dX0_rest_85 : decode cX0_rest 85 = .ok (.ireturn, 1) := dk_172 (dk_at dksX0_rest_3 15 rfl rfl)
theorem dX0_rest_86 : decode cX0_rest 86 = .ok (.iinc 1 1, 3) := dk_132 1 1 (dk_at dksX0_rest_3 16 rfl rfl)
theorem dX0_rest_89 : decode cX0_rest 89 = .ok (.goto (-61), 3) := dk_167 255 195 (dk_at dksX0_rest_3 19 rfl rfl)
theorem dX0_rest_92 : decode cX0_rest 92 = .ok (.iconst (-1), 1) := dk_2 (dk_at dksX0_rest_3 22 rfl rfl)
theorem dX0_rest_93 : decode cX0_rest 93 = .ok (.ireturn, 1) := dk_172 (dk_at dksX0_rest_3 23 rfl rfl)
abbrev cX0_goRound : ByteArray := prog_1_method_44_code
def yX0_goRound : MethodName := ⟨RX0, "goRound", "()Z"⟩
def dkwX0_goRound_3 : List UInt8 := [42, 180, 0, 52, 29, 46, 79, 132, 3, 1, 167, 255, 203, 132, 2, 1, 167, 255, 172, 27, 172]
abbrev dktX0_goRound_3 : List UInt8 := dkwX0_goRound_3 ++ []
def dkwX0_goRound_2 : List UInt8 := [42, 180, 0, 52, 29, 46, 159, 0, 7, 4, 167, 0, 4, 3, 60, 42, 180, 0, 64, 6, 28, 104, 29, 96]
abbrev dktX0_goRound_2 : List UInt8 := dkwX0_goRound_2 ++ dktX0_goRound_3
def dkwX0_goRound_1 : List UInt8 := [182, 1, 30, 3, 62, 29, 6, 162, 0, 54, 27, 154, 0, 22, 42, 180, 0, 64, 6, 28, 104, 29, 96, 46]
abbrev dktX0_goRound_1 : List UInt8 := dkwX0_goRound_1 ++ dktX0_goRound_2
def dkwX0_goRound_0 : List UInt8 := [3, 60, 3, 61, 28, 42, 182, 0, 126, 162, 0, 82, 42, 28, 182, 1, 49, 42, 42, 180, 0, 41, 28, 3]
abbrev dktX0_goRound_0 : List UInt8 := dkwX0_goRound_0 ++ dktX0_goRound_1
theorem dksX0_goRound_0 : cX0_goRound.data.toList.drop 0 = dktX0_goRound_0 := by decide +kernel
theorem dksX0_goRound_1 : cX0_goRound.data.toList.drop 24 = dktX0_goRound_1 := dk_seg dksX0_goRound_0 24 rfl rfl
theorem dksX0_goRound_2 : cX0_goRound.data.toList.drop 48 = dktX0_goRound_2 := dk_seg dksX0_goRound_1 24 rfl rfl
theorem dksX0_goRound_3 : cX0_goRound.data.toList.drop 72 = dktX0_goRound_3 := dk_seg dksX0_goRound_2 24 rfl rfl
theorem dX0_goRound_0 : decode cX0_goRound 0 = .ok (.iconst 0, 1) := dk_3 (dk_at dksX0_goRound_0 0 rfl rfl)
theorem dX0_goRound_1 : decode cX0_goRound 1 = .ok (.istore_n 1, 1) := dk_60 (dk_at dksX0_goRound_0 1 rfl rfl)
theorem dX0_goRound_2 : decode cX0_goRound 2 = .ok (.iconst 0, 1) := dk_3 (dk_at dksX0_goRound_0 2 rfl rfl)
theorem dX0_goRound_3 : decode cX0_goRound 3 = .ok (.istore_n 2, 1) := dk_61 (dk_at dksX0_goRound_0 3 rfl rfl)
theorem dX0_goRound_4 : decode cX0_goRound 4 = .ok (.iload_n 2, 1) := dk_28 (dk_at dksX0_goRound_0 4 rfl rfl)
theorem dX0_goRound_5 : decode cX0_goRound 5 = .ok (.aload_n 0, 1) := dk_42 (dk_at dksX0_goRound_0 5 rfl rfl)
theorem dX0_goRound_6 : decode cX0_goRound 6 = .ok (.invokevirtual 126, 3) := dk_182 0 126 (dk_at dksX0_goRound_0 6 rfl rfl)
theorem dX0_goRound_9 : decode cX0_goRound 9 = .ok (.if_icmp .ge 82, 3) := dk_162 0 82 (dk_at dksX0_goRound_0 9 rfl rfl)
theorem dX0_goRound_12 : decode cX0_goRound 12 = .ok (.aload_n 0, 1) := dk_42 (dk_at dksX0_goRound_0 12 rfl rfl)
theorem dX0_goRound_13 : decode cX0_goRound 13 = .ok (.iload_n 2, 1) := dk_28 (dk_at dksX0_goRound_0 13 rfl rfl)
theorem dX0_goRound_14 : decode cX0_goRound 14 = .ok (.invokevirtual 305, 3) := dk_182 1 49 (dk_at dksX0_goRound_0 14 rfl rfl)
theorem dX0_goRound_17 : decode cX0_goRound 17 = .ok (.aload_n 0, 1) := dk_42 (dk_at dksX0_goRound_0 17 rfl rfl)
theorem dX0_goRound_18 : decode cX0_goRound 18 = .ok (.aload_n 0, 1) := dk_42 (dk_at dksX0_goRound_0 18 rfl rfl)
theorem dX0_goRound_19 : decode cX0_goRound 19 = .ok (.getfield 41, 3) := dk_180 0 41 (dk_at dksX0_goRound_0 19 rfl rfl)
theorem dX0_goRound_22 : decode cX0_goRound 22 = .ok (.iload_n 2, 1) := dk_28 (dk_at dksX0_goRound_0 22 rfl rfl)
theorem dX0_goRound_23 : decode cX0_goRound 23 = .ok (.iconst 0, 1) := dk_3 (dk_at dksX0_goRound_0 23 rfl rfl)
theorem dX0_goRound_24 : decode cX0_goRound 24 = .ok (.invokevirtual 286, 3) := dk_182 1 30 (dk_at dksX0_goRound_1 0 rfl rfl)
theorem dX0_goRound_27 : decode cX0_goRound 27 = .ok (.iconst 0, 1) := dk_3 (dk_at dksX0_goRound_1 3 rfl rfl)
theorem dX0_goRound_28 : decode cX0_goRound 28 = .ok (.istore_n 3, 1) := dk_62 (dk_at dksX0_goRound_1 4 rfl rfl)
theorem dX0_goRound_29 : decode cX0_goRound 29 = .ok (.iload_n 3, 1) := dk_29 (dk_at dksX0_goRound_1 5 rfl rfl)
theorem dX0_goRound_30 : decode cX0_goRound 30 = .ok (.iconst 3, 1) := dk_6 (dk_at dksX0_goRound_1 6 rfl rfl)
theorem dX0_goRound_31 : decode cX0_goRound 31 = .ok (.if_icmp .ge 54, 3) := dk_162 0 54 (dk_at dksX0_goRound_1 7 rfl rfl)
theorem dX0_goRound_34 : decode cX0_goRound 34 = .ok (.iload_n 1, 1) := dk_27 (dk_at dksX0_goRound_1 10 rfl rfl)
theorem dX0_goRound_35 : decode cX0_goRound 35 = .ok (.ifCond .ne 22, 3) := dk_154 0 22 (dk_at dksX0_goRound_1 11 rfl rfl)
theorem dX0_goRound_38 : decode cX0_goRound 38 = .ok (.aload_n 0, 1) := dk_42 (dk_at dksX0_goRound_1 14 rfl rfl)
theorem dX0_goRound_39 : decode cX0_goRound 39 = .ok (.getfield 64, 3) := dk_180 0 64 (dk_at dksX0_goRound_1 15 rfl rfl)
theorem dX0_goRound_42 : decode cX0_goRound 42 = .ok (.iconst 3, 1) := dk_6 (dk_at dksX0_goRound_1 18 rfl rfl)
theorem dX0_goRound_43 : decode cX0_goRound 43 = .ok (.iload_n 2, 1) := dk_28 (dk_at dksX0_goRound_1 19 rfl rfl)
theorem dX0_goRound_44 : decode cX0_goRound 44 = .ok (.imul, 1) := dk_104 (dk_at dksX0_goRound_1 20 rfl rfl)
theorem dX0_goRound_45 : decode cX0_goRound 45 = .ok (.iload_n 3, 1) := dk_29 (dk_at dksX0_goRound_1 21 rfl rfl)
theorem dX0_goRound_46 : decode cX0_goRound 46 = .ok (.iadd, 1) := dk_96 (dk_at dksX0_goRound_1 22 rfl rfl)
theorem dX0_goRound_47 : decode cX0_goRound 47 = .ok (.iaload, 1) := dk_46 (dk_at dksX0_goRound_1 23 rfl rfl)
theorem dX0_goRound_48 : decode cX0_goRound 48 = .ok (.aload_n 0, 1) := dk_42 (dk_at dksX0_goRound_2 0 rfl rfl)
theorem dX0_goRound_49 : decode cX0_goRound 49 = .ok (.getfield 52, 3) := dk_180 0 52 (dk_at dksX0_goRound_2 1 rfl rfl)
theorem dX0_goRound_52 : decode cX0_goRound 52 = .ok (.iload_n 3, 1) := dk_29 (dk_at dksX0_goRound_2 4 rfl rfl)
theorem dX0_goRound_53 : decode cX0_goRound 53 = .ok (.iaload, 1) := dk_46 (dk_at dksX0_goRound_2 5 rfl rfl)
theorem dX0_goRound_54 : decode cX0_goRound 54 = .ok (.if_icmp .eq 7, 3) := dk_159 0 7 (dk_at dksX0_goRound_2 6 rfl rfl)
theorem dX0_goRound_57 : decode cX0_goRound 57 = .ok (.iconst 1, 1) := dk_4 (dk_at dksX0_goRound_2 9 rfl rfl)
theorem dX0_goRound_58 : decode cX0_goRound 58 = .ok (.goto 4, 3) := dk_167 0 4 (dk_at dksX0_goRound_2 10 rfl rfl)
theorem dX0_goRound_61 : decode cX0_goRound 61 = .ok (.iconst 0, 1) := dk_3 (dk_at dksX0_goRound_2 13 rfl rfl)
theorem dX0_goRound_62 : decode cX0_goRound 62 = .ok (.istore_n 1, 1) := dk_60 (dk_at dksX0_goRound_2 14 rfl rfl)
theorem dX0_goRound_63 : decode cX0_goRound 63 = .ok (.aload_n 0, 1) := dk_42 (dk_at dksX0_goRound_2 15 rfl rfl)
theorem dX0_goRound_64 : decode cX0_goRound 64 = .ok (.getfield 64, 3) := dk_180 0 64 (dk_at dksX0_goRound_2 16 rfl rfl)
theorem dX0_goRound_67 : decode cX0_goRound 67 = .ok (.iconst 3, 1) := dk_6 (dk_at dksX0_goRound_2 19 rfl rfl)
theorem dX0_goRound_68 : decode cX0_goRound 68 = .ok (.iload_n 2, 1) := dk_28 (dk_at dksX0_goRound_2 20 rfl rfl)
theorem dX0_goRound_69 : decode cX0_goRound 69 = .ok (.imul, 1) := dk_104 (dk_at dksX0_goRound_2 21 rfl rfl)
theorem dX0_goRound_70 : decode cX0_goRound 70 = .ok (.iload_n 3, 1) := dk_29 (dk_at dksX0_goRound_2 22 rfl rfl)
theorem dX0_goRound_71 : decode cX0_goRound 71 = .ok (.iadd, 1) := dk_96 (dk_at dksX0_goRound_2 23 rfl rfl)
theorem dX0_goRound_72 : decode cX0_goRound 72 = .ok (.aload_n 0, 1) := dk_42 (dk_at dksX0_goRound_3 0 rfl rfl)
theorem dX0_goRound_73 : decode cX0_goRound 73 = .ok (.getfield 52, 3) := dk_180 0 52 (dk_at dksX0_goRound_3 1 rfl rfl)
theorem dX0_goRound_76 : decode cX0_goRound 76 = .ok (.iload_n 3, 1) := dk_29 (dk_at dksX0_goRound_3 4 rfl rfl)
theorem dX0_goRound_77 : decode cX0_goRound 77 = .ok (.iaload, 1) := dk_46 (dk_at dksX0_goRound_3 5 rfl rfl)
theorem dX0_goRound_78 : decode cX0_goRound 78 = .ok (.iastore, 1) := dk_79 (dk_at dksX0_goRound_3 6 rfl rfl)
theorem dX0_goRound_79 : decode cX0_goRound 79 = .ok (.iinc 3 1, 3) := dk_132 3 1 (dk_at dksX0_goRound_3 7 rfl rfl)
theorem dX0_goRound_82 : decode cX0_goRound 82 = .ok (.goto (-53), 3) := dk_167 255 203 (dk_at dksX0_goRound_3 10 rfl rfl)
theorem dX0_goRound_85 : decode cX0_goRound 85 = .ok (.iinc 2 1, 3) := dk_132 2 1 (dk_at dksX0_goRound_3 13 rfl rfl)
theorem dX0_goRound_88 : decode cX0_goRound 88 = .ok (.goto (-84), 3) := dk_167 255 172 (dk_at dksX0_goRound_3 16 rfl rfl)
theorem dX0_goRound_91 : decode cX0_goRound 91 = .ok (.iload_n 1, 1) := dk_27 (dk_at dksX0_goRound_3 19 rfl rfl)
theorem dX0_goRound_92 : decode cX0_goRound 92 = .ok (.ireturn, 1) := dk_172 (dk_at dksX0_goRound_3 20 rfl rfl)
abbrev cX0_layWithout : ByteArray := prog_1_method_43_code
def yX0_layWithout : MethodName := ⟨RX0, "layWithout", "(I)V"⟩
def dkwX0_layWithout_2 : List UInt8 := [132, 2, 1, 167, 255, 220, 177]
abbrev dktX0_layWithout_2 : List UInt8 := dkwX0_layWithout_2 ++ []
def dkwX0_layWithout_1 : List UInt8 := [159, 0, 23, 42, 180, 0, 41, 42, 180, 0, 20, 28, 42, 180, 0, 64, 6, 28, 104, 182, 1, 6, 87]
abbrev dktX0_layWithout_1 : List UInt8 := dkwX0_layWithout_1 ++ dktX0_layWithout_2
def dkwX0_layWithout_0 : List UInt8 := [42, 180, 0, 41, 42, 180, 0, 31, 182, 0, 204, 87, 3, 61, 28, 42, 182, 0, 126, 162, 0, 34, 28, 27]
abbrev dktX0_layWithout_0 : List UInt8 := dkwX0_layWithout_0 ++ dktX0_layWithout_1
theorem dksX0_layWithout_0 : cX0_layWithout.data.toList.drop 0 = dktX0_layWithout_0 := by decide +kernel
theorem dksX0_layWithout_1 : cX0_layWithout.data.toList.drop 24 = dktX0_layWithout_1 := dk_seg dksX0_layWithout_0 24 rfl rfl
theorem dksX0_layWithout_2 : cX0_layWithout.data.toList.drop 47 = dktX0_layWithout_2 := dk_seg dksX0_layWithout_1 23 rfl rfl
theorem dX0_layWithout_0 : decode cX0_layWithout 0 = .ok (.aload_n 0, 1) := dk_42 (dk_at dksX0_layWithout_0 0 rfl rfl)
theorem dX0_layWithout_1 : decode cX0_layWithout 1 = .ok (.getfield 41, 3) := dk_180 0 41 (dk_at dksX0_layWithout_0 1 rfl rfl)
theorem dX0_layWithout_4 : decode cX0_layWithout 4 = .ok (.aload_n 0, 1) := dk_42 (dk_at dksX0_layWithout_0 4 rfl rfl)
theorem dX0_layWithout_5 : decode cX0_layWithout 5 = .ok (.getfield 31, 3) := dk_180 0 31 (dk_at dksX0_layWithout_0 5 rfl rfl)
theorem dX0_layWithout_8 : decode cX0_layWithout 8 = .ok (.invokevirtual 204, 3) := dk_182 0 204 (dk_at dksX0_layWithout_0 8 rfl rfl)
theorem dX0_layWithout_11 : decode cX0_layWithout 11 = .ok (.pop, 1) := dk_87 (dk_at dksX0_layWithout_0 11 rfl rfl)
theorem dX0_layWithout_12 : decode cX0_layWithout 12 = .ok (.iconst 0, 1) := dk_3 (dk_at dksX0_layWithout_0 12 rfl rfl)
theorem dX0_layWithout_13 : decode cX0_layWithout 13 = .ok (.istore_n 2, 1) := dk_61 (dk_at dksX0_layWithout_0 13 rfl rfl)
theorem dX0_layWithout_14 : decode cX0_layWithout 14 = .ok (.iload_n 2, 1) := dk_28 (dk_at dksX0_layWithout_0 14 rfl rfl)
theorem dX0_layWithout_15 : decode cX0_layWithout 15 = .ok (.aload_n 0, 1) := dk_42 (dk_at dksX0_layWithout_0 15 rfl rfl)
theorem dX0_layWithout_16 : decode cX0_layWithout 16 = .ok (.invokevirtual 126, 3) := dk_182 0 126 (dk_at dksX0_layWithout_0 16 rfl rfl)
theorem dX0_layWithout_19 : decode cX0_layWithout 19 = .ok (.if_icmp .ge 34, 3) := dk_162 0 34 (dk_at dksX0_layWithout_0 19 rfl rfl)
theorem dX0_layWithout_22 : decode cX0_layWithout 22 = .ok (.iload_n 2, 1) := dk_28 (dk_at dksX0_layWithout_0 22 rfl rfl)
theorem dX0_layWithout_23 : decode cX0_layWithout 23 = .ok (.iload_n 1, 1) := dk_27 (dk_at dksX0_layWithout_0 23 rfl rfl)
theorem dX0_layWithout_24 : decode cX0_layWithout 24 = .ok (.if_icmp .eq 23, 3) := dk_159 0 23 (dk_at dksX0_layWithout_1 0 rfl rfl)
theorem dX0_layWithout_27 : decode cX0_layWithout 27 = .ok (.aload_n 0, 1) := dk_42 (dk_at dksX0_layWithout_1 3 rfl rfl)
theorem dX0_layWithout_28 : decode cX0_layWithout 28 = .ok (.getfield 41, 3) := dk_180 0 41 (dk_at dksX0_layWithout_1 4 rfl rfl)
theorem dX0_layWithout_31 : decode cX0_layWithout 31 = .ok (.aload_n 0, 1) := dk_42 (dk_at dksX0_layWithout_1 7 rfl rfl)
theorem dX0_layWithout_32 : decode cX0_layWithout 32 = .ok (.getfield 20, 3) := dk_180 0 20 (dk_at dksX0_layWithout_1 8 rfl rfl)
theorem dX0_layWithout_35 : decode cX0_layWithout 35 = .ok (.iload_n 2, 1) := dk_28 (dk_at dksX0_layWithout_1 11 rfl rfl)
theorem dX0_layWithout_36 : decode cX0_layWithout 36 = .ok (.aload_n 0, 1) := dk_42 (dk_at dksX0_layWithout_1 12 rfl rfl)
theorem dX0_layWithout_37 : decode cX0_layWithout 37 = .ok (.getfield 64, 3) := dk_180 0 64 (dk_at dksX0_layWithout_1 13 rfl rfl)
theorem dX0_layWithout_40 : decode cX0_layWithout 40 = .ok (.iconst 3, 1) := dk_6 (dk_at dksX0_layWithout_1 16 rfl rfl)
theorem dX0_layWithout_41 : decode cX0_layWithout 41 = .ok (.iload_n 2, 1) := dk_28 (dk_at dksX0_layWithout_1 17 rfl rfl)
theorem dX0_layWithout_42 : decode cX0_layWithout 42 = .ok (.imul, 1) := dk_104 (dk_at dksX0_layWithout_1 18 rfl rfl)
theorem dX0_layWithout_43 : decode cX0_layWithout 43 = .ok (.invokevirtual 262, 3) := dk_182 1 6 (dk_at dksX0_layWithout_1 19 rfl rfl)
theorem dX0_layWithout_46 : decode cX0_layWithout 46 = .ok (.pop, 1) := dk_87 (dk_at dksX0_layWithout_1 22 rfl rfl)
theorem dX0_layWithout_47 : decode cX0_layWithout 47 = .ok (.iinc 2 1, 3) := dk_132 2 1 (dk_at dksX0_layWithout_2 0 rfl rfl)
theorem dX0_layWithout_50 : decode cX0_layWithout 50 = .ok (.goto (-36), 3) := dk_167 255 220 (dk_at dksX0_layWithout_2 3 rfl rfl)
theorem dX0_layWithout_53 : decode cX0_layWithout 53 = .ok (.return_, 1) := dk_177 (dk_at dksX0_layWithout_2 6 rfl rfl)
abbrev cX0_will : ByteArray := prog_1_method_46_code
def yX0_will : MethodName := ⟨RX0, "will", "(II)I"⟩
def dkwX0_will_2 : List UInt8 := [182, 0, 247, 87, 132, 3, 1, 167, 255, 236, 42, 180, 0, 41, 180, 0, 155, 27, 46, 172]
abbrev dktX0_will_2 : List UInt8 := dkwX0_will_2 ++ []
def dkwX0_will_1 : List UInt8 := [42, 180, 0, 31, 182, 0, 204, 87, 3, 62, 29, 28, 162, 0, 21, 42, 180, 0, 41, 42, 180, 0, 20]
abbrev dktX0_will_1 : List UInt8 := dkwX0_will_1 ++ dktX0_will_2
def dkwX0_will_0 : List UInt8 := [42, 27, 182, 0, 144, 153, 0, 13, 28, 3, 16, 30, 184, 0, 138, 154, 0, 5, 2, 172, 42, 180, 0, 41]
abbrev dktX0_will_0 : List UInt8 := dkwX0_will_0 ++ dktX0_will_1
theorem dksX0_will_0 : cX0_will.data.toList.drop 0 = dktX0_will_0 := by decide +kernel
theorem dksX0_will_1 : cX0_will.data.toList.drop 24 = dktX0_will_1 := dk_seg dksX0_will_0 24 rfl rfl
theorem dksX0_will_2 : cX0_will.data.toList.drop 47 = dktX0_will_2 := dk_seg dksX0_will_1 23 rfl rfl
theorem dX0_will_0 : decode cX0_will 0 = .ok (.aload_n 0, 1) := dk_42 (dk_at dksX0_will_0 0 rfl rfl)
theorem dX0_will_1 : decode cX0_will 1 = .ok (.iload_n 1, 1) := dk_27 (dk_at dksX0_will_0 1 rfl rfl)
theorem dX0_will_2 : decode cX0_will 2 = .ok (.invokevirtual 144, 3) := dk_182 0 144 (dk_at dksX0_will_0 2 rfl rfl)
theorem dX0_will_5 : decode cX0_will 5 = .ok (.ifCond .eq 13, 3) := dk_153 0 13 (dk_at dksX0_will_0 5 rfl rfl)
theorem dX0_will_8 : decode cX0_will 8 = .ok (.iload_n 2, 1) := dk_28 (dk_at dksX0_will_0 8 rfl rfl)
theorem dX0_will_9 : decode cX0_will 9 = .ok (.iconst 0, 1) := dk_3 (dk_at dksX0_will_0 9 rfl rfl)
theorem dX0_will_10 : decode cX0_will 10 = .ok (.bipush 30, 2) := dk_16 30 (dk_at dksX0_will_0 10 rfl rfl)
theorem dX0_will_12 : decode cX0_will 12 = .ok (.invokestatic 138, 3) := dk_184 0 138 (dk_at dksX0_will_0 12 rfl rfl)
theorem dX0_will_15 : decode cX0_will 15 = .ok (.ifCond .ne 5, 3) := dk_154 0 5 (dk_at dksX0_will_0 15 rfl rfl)
theorem dX0_will_18 : decode cX0_will 18 = .ok (.iconst (-1), 1) := dk_2 (dk_at dksX0_will_0 18 rfl rfl)
theorem dX0_will_19 : decode cX0_will 19 = .ok (.ireturn, 1) := dk_172 (dk_at dksX0_will_0 19 rfl rfl)
theorem dX0_will_20 : decode cX0_will 20 = .ok (.aload_n 0, 1) := dk_42 (dk_at dksX0_will_0 20 rfl rfl)
theorem dX0_will_21 : decode cX0_will 21 = .ok (.getfield 41, 3) := dk_180 0 41 (dk_at dksX0_will_0 21 rfl rfl)
theorem dX0_will_24 : decode cX0_will 24 = .ok (.aload_n 0, 1) := dk_42 (dk_at dksX0_will_1 0 rfl rfl)
theorem dX0_will_25 : decode cX0_will 25 = .ok (.getfield 31, 3) := dk_180 0 31 (dk_at dksX0_will_1 1 rfl rfl)
theorem dX0_will_28 : decode cX0_will 28 = .ok (.invokevirtual 204, 3) := dk_182 0 204 (dk_at dksX0_will_1 4 rfl rfl)
theorem dX0_will_31 : decode cX0_will 31 = .ok (.pop, 1) := dk_87 (dk_at dksX0_will_1 7 rfl rfl)
theorem dX0_will_32 : decode cX0_will 32 = .ok (.iconst 0, 1) := dk_3 (dk_at dksX0_will_1 8 rfl rfl)
theorem dX0_will_33 : decode cX0_will 33 = .ok (.istore_n 3, 1) := dk_62 (dk_at dksX0_will_1 9 rfl rfl)
theorem dX0_will_34 : decode cX0_will 34 = .ok (.iload_n 3, 1) := dk_29 (dk_at dksX0_will_1 10 rfl rfl)
theorem dX0_will_35 : decode cX0_will 35 = .ok (.iload_n 2, 1) := dk_28 (dk_at dksX0_will_1 11 rfl rfl)
theorem dX0_will_36 : decode cX0_will 36 = .ok (.if_icmp .ge 21, 3) := dk_162 0 21 (dk_at dksX0_will_1 12 rfl rfl)
theorem dX0_will_39 : decode cX0_will 39 = .ok (.aload_n 0, 1) := dk_42 (dk_at dksX0_will_1 15 rfl rfl)
theorem dX0_will_40 : decode cX0_will 40 = .ok (.getfield 41, 3) := dk_180 0 41 (dk_at dksX0_will_1 16 rfl rfl)
theorem dX0_will_43 : decode cX0_will 43 = .ok (.aload_n 0, 1) := dk_42 (dk_at dksX0_will_1 19 rfl rfl)
theorem dX0_will_44 : decode cX0_will 44 = .ok (.getfield 20, 3) := dk_180 0 20 (dk_at dksX0_will_1 20 rfl rfl)
theorem dX0_will_47 : decode cX0_will 47 = .ok (.invokevirtual 247, 3) := dk_182 0 247 (dk_at dksX0_will_2 0 rfl rfl)
theorem dX0_will_50 : decode cX0_will 50 = .ok (.pop, 1) := dk_87 (dk_at dksX0_will_2 3 rfl rfl)
theorem dX0_will_51 : decode cX0_will 51 = .ok (.iinc 3 1, 3) := dk_132 3 1 (dk_at dksX0_will_2 4 rfl rfl)
theorem dX0_will_54 : decode cX0_will 54 = .ok (.goto (-20), 3) := dk_167 255 236 (dk_at dksX0_will_2 7 rfl rfl)
theorem dX0_will_57 : decode cX0_will 57 = .ok (.aload_n 0, 1) := dk_42 (dk_at dksX0_will_2 10 rfl rfl)
theorem dX0_will_58 : decode cX0_will 58 = .ok (.getfield 41, 3) := dk_180 0 41 (dk_at dksX0_will_2 11 rfl rfl)
theorem dX0_will_61 : decode cX0_will 61 = .ok (.getfield 155, 3) := dk_180 0 155 (dk_at dksX0_will_2 14 rfl rfl)
theorem dX0_will_64 : decode cX0_will 64 = .ok (.iload_n 1, 1) := dk_27 (dk_at dksX0_will_2 17 rfl rfl)
theorem dX0_will_65 : decode cX0_will 65 = .ok (.iaload, 1) := dk_46 (dk_at dksX0_will_2 18 rfl rfl)
theorem dX0_will_66 : decode cX0_will 66 = .ok (.ireturn, 1) := dk_172 (dk_at dksX0_will_2 19 rfl rfl)
abbrev cX0_thrive : ByteArray := prog_1_method_47_code
def yX0_thrive : MethodName := ⟨RX0, "thrive", "(II)I"⟩
def dkwX0_thrive_3 : List UInt8 := [180, 0, 20, 182, 0, 247, 87, 132, 3, 1, 167, 255, 210, 42, 180, 0, 41, 180, 0, 155, 27, 46, 172]
abbrev dktX0_thrive_3 : List UInt8 := dkwX0_thrive_3 ++ []
def dkwX0_thrive_2 : List UInt8 := [182, 1, 30, 42, 180, 0, 41, 42, 180, 0, 20, 27, 42, 180, 0, 52, 182, 1, 56, 42, 180, 0, 41, 42]
abbrev dktX0_thrive_2 : List UInt8 := dkwX0_thrive_2 ++ dktX0_thrive_3
def dkwX0_thrive_1 : List UInt8 := [42, 180, 0, 31, 182, 0, 204, 87, 3, 62, 29, 28, 162, 0, 47, 42, 42, 180, 0, 41, 27, 3]
abbrev dktX0_thrive_1 : List UInt8 := dkwX0_thrive_1 ++ dktX0_thrive_2
def dkwX0_thrive_0 : List UInt8 := [42, 27, 182, 0, 144, 153, 0, 13, 28, 3, 16, 12, 184, 0, 138, 154, 0, 5, 2, 172, 42, 180, 0, 41]
abbrev dktX0_thrive_0 : List UInt8 := dkwX0_thrive_0 ++ dktX0_thrive_1
theorem dksX0_thrive_0 : cX0_thrive.data.toList.drop 0 = dktX0_thrive_0 := by decide +kernel
theorem dksX0_thrive_1 : cX0_thrive.data.toList.drop 24 = dktX0_thrive_1 := dk_seg dksX0_thrive_0 24 rfl rfl
theorem dksX0_thrive_2 : cX0_thrive.data.toList.drop 46 = dktX0_thrive_2 := dk_seg dksX0_thrive_1 22 rfl rfl
theorem dksX0_thrive_3 : cX0_thrive.data.toList.drop 70 = dktX0_thrive_3 := dk_seg dksX0_thrive_2 24 rfl rfl
theorem dX0_thrive_0 : decode cX0_thrive 0 = .ok (.aload_n 0, 1) := dk_42 (dk_at dksX0_thrive_0 0 rfl rfl)
theorem dX0_thrive_1 : decode cX0_thrive 1 = .ok (.iload_n 1, 1) := dk_27 (dk_at dksX0_thrive_0 1 rfl rfl)
theorem dX0_thrive_2 : decode cX0_thrive 2 = .ok (.invokevirtual 144, 3) := dk_182 0 144 (dk_at dksX0_thrive_0 2 rfl rfl)
theorem dX0_thrive_5 : decode cX0_thrive 5 = .ok (.ifCond .eq 13, 3) := dk_153 0 13 (dk_at dksX0_thrive_0 5 rfl rfl)
theorem dX0_thrive_8 : decode cX0_thrive 8 = .ok (.iload_n 2, 1) := dk_28 (dk_at dksX0_thrive_0 8 rfl rfl)
theorem dX0_thrive_9 : decode cX0_thrive 9 = .ok (.iconst 0, 1) := dk_3 (dk_at dksX0_thrive_0 9 rfl rfl)
theorem dX0_thrive_10 : decode cX0_thrive 10 = .ok (.bipush 12, 2) := dk_16 12 (dk_at dksX0_thrive_0 10 rfl rfl)
theorem dX0_thrive_12 : decode cX0_thrive 12 = .ok (.invokestatic 138, 3) := dk_184 0 138 (dk_at dksX0_thrive_0 12 rfl rfl)
theorem dX0_thrive_15 : decode cX0_thrive 15 = .ok (.ifCond .ne 5, 3) := dk_154 0 5 (dk_at dksX0_thrive_0 15 rfl rfl)
theorem dX0_thrive_18 : decode cX0_thrive 18 = .ok (.iconst (-1), 1) := dk_2 (dk_at dksX0_thrive_0 18 rfl rfl)
theorem dX0_thrive_19 : decode cX0_thrive 19 = .ok (.ireturn, 1) := dk_172 (dk_at dksX0_thrive_0 19 rfl rfl)
theorem dX0_thrive_20 : decode cX0_thrive 20 = .ok (.aload_n 0, 1) := dk_42 (dk_at dksX0_thrive_0 20 rfl rfl)
theorem dX0_thrive_21 : decode cX0_thrive 21 = .ok (.getfield 41, 3) := dk_180 0 41 (dk_at dksX0_thrive_0 21 rfl rfl)
theorem dX0_thrive_24 : decode cX0_thrive 24 = .ok (.aload_n 0, 1) := dk_42 (dk_at dksX0_thrive_1 0 rfl rfl)
theorem dX0_thrive_25 : decode cX0_thrive 25 = .ok (.getfield 31, 3) := dk_180 0 31 (dk_at dksX0_thrive_1 1 rfl rfl)
theorem dX0_thrive_28 : decode cX0_thrive 28 = .ok (.invokevirtual 204, 3) := dk_182 0 204 (dk_at dksX0_thrive_1 4 rfl rfl)
theorem dX0_thrive_31 : decode cX0_thrive 31 = .ok (.pop, 1) := dk_87 (dk_at dksX0_thrive_1 7 rfl rfl)
theorem dX0_thrive_32 : decode cX0_thrive 32 = .ok (.iconst 0, 1) := dk_3 (dk_at dksX0_thrive_1 8 rfl rfl)
theorem dX0_thrive_33 : decode cX0_thrive 33 = .ok (.istore_n 3, 1) := dk_62 (dk_at dksX0_thrive_1 9 rfl rfl)
theorem dX0_thrive_34 : decode cX0_thrive 34 = .ok (.iload_n 3, 1) := dk_29 (dk_at dksX0_thrive_1 10 rfl rfl)
theorem dX0_thrive_35 : decode cX0_thrive 35 = .ok (.iload_n 2, 1) := dk_28 (dk_at dksX0_thrive_1 11 rfl rfl)
theorem dX0_thrive_36 : decode cX0_thrive 36 = .ok (.if_icmp .ge 47, 3) := dk_162 0 47 (dk_at dksX0_thrive_1 12 rfl rfl)
theorem dX0_thrive_39 : decode cX0_thrive 39 = .ok (.aload_n 0, 1) := dk_42 (dk_at dksX0_thrive_1 15 rfl rfl)
theorem dX0_thrive_40 : decode cX0_thrive 40 = .ok (.aload_n 0, 1) := dk_42 (dk_at dksX0_thrive_1 16 rfl rfl)
theorem dX0_thrive_41 : decode cX0_thrive 41 = .ok (.getfield 41, 3) := dk_180 0 41 (dk_at dksX0_thrive_1 17 rfl rfl)
theorem dX0_thrive_44 : decode cX0_thrive 44 = .ok (.iload_n 1, 1) := dk_27 (dk_at dksX0_thrive_1 20 rfl rfl)
theorem dX0_thrive_45 : decode cX0_thrive 45 = .ok (.iconst 0, 1) := dk_3 (dk_at dksX0_thrive_1 21 rfl rfl)
theorem dX0_thrive_46 : decode cX0_thrive 46 = .ok (.invokevirtual 286, 3) := dk_182 1 30 (dk_at dksX0_thrive_2 0 rfl rfl)
theorem dX0_thrive_49 : decode cX0_thrive 49 = .ok (.aload_n 0, 1) := dk_42 (dk_at dksX0_thrive_2 3 rfl rfl)
theorem dX0_thrive_50 : decode cX0_thrive 50 = .ok (.getfield 41, 3) := dk_180 0 41 (dk_at dksX0_thrive_2 4 rfl rfl)
theorem dX0_thrive_53 : decode cX0_thrive 53 = .ok (.aload_n 0, 1) := dk_42 (dk_at dksX0_thrive_2 7 rfl rfl)
theorem dX0_thrive_54 : decode cX0_thrive 54 = .ok (.getfield 20, 3) := dk_180 0 20 (dk_at dksX0_thrive_2 8 rfl rfl)
theorem dX0_thrive_57 : decode cX0_thrive 57 = .ok (.iload_n 1, 1) := dk_27 (dk_at dksX0_thrive_2 11 rfl rfl)
theorem dX0_thrive_58 : decode cX0_thrive 58 = .ok (.aload_n 0, 1) := dk_42 (dk_at dksX0_thrive_2 12 rfl rfl)
theorem dX0_thrive_59 : decode cX0_thrive 59 = .ok (.getfield 52, 3) := dk_180 0 52 (dk_at dksX0_thrive_2 13 rfl rfl)
theorem dX0_thrive_62 : decode cX0_thrive 62 = .ok (.invokevirtual 312, 3) := dk_182 1 56 (dk_at dksX0_thrive_2 16 rfl rfl)
theorem dX0_thrive_65 : decode cX0_thrive 65 = .ok (.aload_n 0, 1) := dk_42 (dk_at dksX0_thrive_2 19 rfl rfl)
theorem dX0_thrive_66 : decode cX0_thrive 66 = .ok (.getfield 41, 3) := dk_180 0 41 (dk_at dksX0_thrive_2 20 rfl rfl)
theorem dX0_thrive_69 : decode cX0_thrive 69 = .ok (.aload_n 0, 1) := dk_42 (dk_at dksX0_thrive_2 23 rfl rfl)
theorem dX0_thrive_70 : decode cX0_thrive 70 = .ok (.getfield 20, 3) := dk_180 0 20 (dk_at dksX0_thrive_3 0 rfl rfl)
theorem dX0_thrive_73 : decode cX0_thrive 73 = .ok (.invokevirtual 247, 3) := dk_182 0 247 (dk_at dksX0_thrive_3 3 rfl rfl)
theorem dX0_thrive_76 : decode cX0_thrive 76 = .ok (.pop, 1) := dk_87 (dk_at dksX0_thrive_3 6 rfl rfl)
theorem dX0_thrive_77 : decode cX0_thrive 77 = .ok (.iinc 3 1, 3) := dk_132 3 1 (dk_at dksX0_thrive_3 7 rfl rfl)
theorem dX0_thrive_80 : decode cX0_thrive 80 = .ok (.goto (-46), 3) := dk_167 255 210 (dk_at dksX0_thrive_3 10 rfl rfl)
theorem dX0_thrive_83 : decode cX0_thrive 83 = .ok (.aload_n 0, 1) := dk_42 (dk_at dksX0_thrive_3 13 rfl rfl)
theorem dX0_thrive_84 : decode cX0_thrive 84 = .ok (.getfield 41, 3) := dk_180 0 41 (dk_at dksX0_thrive_3 14 rfl rfl)
theorem dX0_thrive_87 : decode cX0_thrive 87 = .ok (.getfield 155, 3) := dk_180 0 155 (dk_at dksX0_thrive_3 17 rfl rfl)
theorem dX0_thrive_90 : decode cX0_thrive 90 = .ok (.iload_n 1, 1) := dk_27 (dk_at dksX0_thrive_3 20 rfl rfl)
theorem dX0_thrive_91 : decode cX0_thrive 91 = .ok (.iaload, 1) := dk_46 (dk_at dksX0_thrive_3 21 rfl rfl)
theorem dX0_thrive_92 : decode cX0_thrive 92 = .ok (.ireturn, 1) := dk_172 (dk_at dksX0_thrive_3 22 rfl rfl)
abbrev cX0_saves : ByteArray := prog_1_method_48_code
def yX0_saves : MethodName := ⟨RX0, "saves", "(III)I"⟩
def dkwX0_saves_3 : List UInt8 := [161, 0, 6, 21, 4, 172, 132, 4, 1, 167, 255, 207, 2, 172]
abbrev dktX0_saves_3 : List UInt8 := dkwX0_saves_3 ++ []
def dkwX0_saves_2 : List UInt8 := [21, 4, 42, 180, 0, 20, 180, 0, 130, 27, 182, 0, 149, 192, 0, 153, 180, 0, 189, 28, 46, 104, 96, 29]
abbrev dktX0_saves_2 : List UInt8 := dkwX0_saves_2 ++ dktX0_saves_3
def dkwX0_saves_1 : List UInt8 := [154, 0, 5, 2, 172, 3, 54, 4, 21, 4, 16, 60, 163, 0, 48, 42, 180, 0, 31, 27, 28, 182, 0, 182]
abbrev dktX0_saves_1 : List UInt8 := dkwX0_saves_1 ++ dktX0_saves_2
def dkwX0_saves_0 : List UInt8 := [42, 27, 182, 0, 144, 153, 0, 21, 42, 28, 182, 0, 179, 153, 0, 13, 29, 3, 16, 99, 184, 0, 138]
abbrev dktX0_saves_0 : List UInt8 := dkwX0_saves_0 ++ dktX0_saves_1
theorem dksX0_saves_0 : cX0_saves.data.toList.drop 0 = dktX0_saves_0 := by decide +kernel
theorem dksX0_saves_1 : cX0_saves.data.toList.drop 23 = dktX0_saves_1 := dk_seg dksX0_saves_0 23 rfl rfl
theorem dksX0_saves_2 : cX0_saves.data.toList.drop 47 = dktX0_saves_2 := dk_seg dksX0_saves_1 24 rfl rfl
theorem dksX0_saves_3 : cX0_saves.data.toList.drop 71 = dktX0_saves_3 := dk_seg dksX0_saves_2 24 rfl rfl
theorem dX0_saves_0 : decode cX0_saves 0 = .ok (.aload_n 0, 1) := dk_42 (dk_at dksX0_saves_0 0 rfl rfl)
theorem dX0_saves_1 : decode cX0_saves 1 = .ok (.iload_n 1, 1) := dk_27 (dk_at dksX0_saves_0 1 rfl rfl)
theorem dX0_saves_2 : decode cX0_saves 2 = .ok (.invokevirtual 144, 3) := dk_182 0 144 (dk_at dksX0_saves_0 2 rfl rfl)
theorem dX0_saves_5 : decode cX0_saves 5 = .ok (.ifCond .eq 21, 3) := dk_153 0 21 (dk_at dksX0_saves_0 5 rfl rfl)
theorem dX0_saves_8 : decode cX0_saves 8 = .ok (.aload_n 0, 1) := dk_42 (dk_at dksX0_saves_0 8 rfl rfl)
theorem dX0_saves_9 : decode cX0_saves 9 = .ok (.iload_n 2, 1) := dk_28 (dk_at dksX0_saves_0 9 rfl rfl)
theorem dX0_saves_10 : decode cX0_saves 10 = .ok (.invokevirtual 179, 3) := dk_182 0 179 (dk_at dksX0_saves_0 10 rfl rfl)
theorem dX0_saves_13 : decode cX0_saves 13 = .ok (.ifCond .eq 13, 3) := dk_153 0 13 (dk_at dksX0_saves_0 13 rfl rfl)
theorem dX0_saves_16 : decode cX0_saves 16 = .ok (.iload_n 3, 1) := dk_29 (dk_at dksX0_saves_0 16 rfl rfl)
theorem dX0_saves_17 : decode cX0_saves 17 = .ok (.iconst 0, 1) := dk_3 (dk_at dksX0_saves_0 17 rfl rfl)
theorem dX0_saves_18 : decode cX0_saves 18 = .ok (.bipush 99, 2) := dk_16 99 (dk_at dksX0_saves_0 18 rfl rfl)
theorem dX0_saves_20 : decode cX0_saves 20 = .ok (.invokestatic 138, 3) := dk_184 0 138 (dk_at dksX0_saves_0 20 rfl rfl)
theorem dX0_saves_23 : decode cX0_saves 23 = .ok (.ifCond .ne 5, 3) := dk_154 0 5 (dk_at dksX0_saves_1 0 rfl rfl)
theorem dX0_saves_26 : decode cX0_saves 26 = .ok (.iconst (-1), 1) := dk_2 (dk_at dksX0_saves_1 3 rfl rfl)
theorem dX0_saves_27 : decode cX0_saves 27 = .ok (.ireturn, 1) := dk_172 (dk_at dksX0_saves_1 4 rfl rfl)
theorem dX0_saves_28 : decode cX0_saves 28 = .ok (.iconst 0, 1) := dk_3 (dk_at dksX0_saves_1 5 rfl rfl)
theorem dX0_saves_29 : decode cX0_saves 29 = .ok (.istore 4, 2) := dk_54 4 (dk_at dksX0_saves_1 6 rfl rfl)
theorem dX0_saves_31 : decode cX0_saves 31 = .ok (.iload 4, 2) := dk_21 4 (dk_at dksX0_saves_1 8 rfl rfl)
theorem dX0_saves_33 : decode cX0_saves 33 = .ok (.bipush 60, 2) := dk_16 60 (dk_at dksX0_saves_1 10 rfl rfl)
theorem dX0_saves_35 : decode cX0_saves 35 = .ok (.if_icmp .gt 48, 3) := dk_163 0 48 (dk_at dksX0_saves_1 12 rfl rfl)
theorem dX0_saves_38 : decode cX0_saves 38 = .ok (.aload_n 0, 1) := dk_42 (dk_at dksX0_saves_1 15 rfl rfl)
theorem dX0_saves_39 : decode cX0_saves 39 = .ok (.getfield 31, 3) := dk_180 0 31 (dk_at dksX0_saves_1 16 rfl rfl)
theorem dX0_saves_42 : decode cX0_saves 42 = .ok (.iload_n 1, 1) := dk_27 (dk_at dksX0_saves_1 19 rfl rfl)
theorem dX0_saves_43 : decode cX0_saves 43 = .ok (.iload_n 2, 1) := dk_28 (dk_at dksX0_saves_1 20 rfl rfl)
theorem dX0_saves_44 : decode cX0_saves 44 = .ok (.invokevirtual 182, 3) := dk_182 0 182 (dk_at dksX0_saves_1 21 rfl rfl)
theorem dX0_saves_47 : decode cX0_saves 47 = .ok (.iload 4, 2) := dk_21 4 (dk_at dksX0_saves_2 0 rfl rfl)
theorem dX0_saves_49 : decode cX0_saves 49 = .ok (.aload_n 0, 1) := dk_42 (dk_at dksX0_saves_2 2 rfl rfl)
theorem dX0_saves_50 : decode cX0_saves 50 = .ok (.getfield 20, 3) := dk_180 0 20 (dk_at dksX0_saves_2 3 rfl rfl)
theorem dX0_saves_53 : decode cX0_saves 53 = .ok (.getfield 130, 3) := dk_180 0 130 (dk_at dksX0_saves_2 6 rfl rfl)
theorem dX0_saves_56 : decode cX0_saves 56 = .ok (.iload_n 1, 1) := dk_27 (dk_at dksX0_saves_2 9 rfl rfl)
theorem dX0_saves_57 : decode cX0_saves 57 = .ok (.invokevirtual 149, 3) := dk_182 0 149 (dk_at dksX0_saves_2 10 rfl rfl)
theorem dX0_saves_60 : decode cX0_saves 60 = .ok (.checkcast 153, 3) := dk_192 0 153 (dk_at dksX0_saves_2 13 rfl rfl)
theorem dX0_saves_63 : decode cX0_saves 63 = .ok (.getfield 189, 3) := dk_180 0 189 (dk_at dksX0_saves_2 16 rfl rfl)
theorem dX0_saves_66 : decode cX0_saves 66 = .ok (.iload_n 2, 1) := dk_28 (dk_at dksX0_saves_2 19 rfl rfl)
theorem dX0_saves_67 : decode cX0_saves 67 = .ok (.iaload, 1) := dk_46 (dk_at dksX0_saves_2 20 rfl rfl)
theorem dX0_saves_68 : decode cX0_saves 68 = .ok (.imul, 1) := dk_104 (dk_at dksX0_saves_2 21 rfl rfl)
theorem dX0_saves_69 : decode cX0_saves 69 = .ok (.iadd, 1) := dk_96 (dk_at dksX0_saves_2 22 rfl rfl)
theorem dX0_saves_70 : decode cX0_saves 70 = .ok (.iload_n 3, 1) := dk_29 (dk_at dksX0_saves_2 23 rfl rfl)
theorem dX0_saves_71 : decode cX0_saves 71 = .ok (.if_icmp .lt 6, 3) := dk_161 0 6 (dk_at dksX0_saves_3 0 rfl rfl)
theorem dX0_saves_74 : decode cX0_saves 74 = .ok (.iload 4, 2) := dk_21 4 (dk_at dksX0_saves_3 3 rfl rfl)
theorem dX0_saves_76 : decode cX0_saves 76 = .ok (.ireturn, 1) := dk_172 (dk_at dksX0_saves_3 5 rfl rfl)
theorem dX0_saves_77 : decode cX0_saves 77 = .ok (.iinc 4 1, 3) := dk_132 4 1 (dk_at dksX0_saves_3 6 rfl rfl)
theorem dX0_saves_80 : decode cX0_saves 80 = .ok (.goto (-49), 3) := dk_167 255 207 (dk_at dksX0_saves_3 9 rfl rfl)
theorem dX0_saves_83 : decode cX0_saves 83 = .ok (.iconst (-1), 1) := dk_2 (dk_at dksX0_saves_3 12 rfl rfl)
theorem dX0_saves_84 : decode cX0_saves 84 = .ok (.ireturn, 1) := dk_172 (dk_at dksX0_saves_3 13 rfl rfl)
abbrev cX0_richest : ByteArray := prog_1_method_49_code
def yX0_richest : MethodName := ⟨RX0, "richest", "()I"⟩
def dkwX0_richest_2 : List UInt8 := [172]
abbrev dktX0_richest_2 : List UInt8 := dkwX0_richest_2 ++ []
def dkwX0_richest_1 : List UInt8 := [42, 180, 0, 31, 27, 182, 0, 165, 164, 0, 7, 28, 167, 0, 4, 27, 60, 132, 2, 1, 167, 255, 216, 27]
abbrev dktX0_richest_1 : List UInt8 := dkwX0_richest_1 ++ dktX0_richest_2
def dkwX0_richest_0 : List UInt8 := [2, 60, 3, 61, 28, 42, 182, 0, 126, 162, 0, 38, 27, 155, 0, 22, 42, 180, 0, 31, 28, 182, 0, 165]
abbrev dktX0_richest_0 : List UInt8 := dkwX0_richest_0 ++ dktX0_richest_1
theorem dksX0_richest_0 : cX0_richest.data.toList.drop 0 = dktX0_richest_0 := by decide +kernel
theorem dksX0_richest_1 : cX0_richest.data.toList.drop 24 = dktX0_richest_1 := dk_seg dksX0_richest_0 24 rfl rfl
theorem dksX0_richest_2 : cX0_richest.data.toList.drop 48 = dktX0_richest_2 := dk_seg dksX0_richest_1 24 rfl rfl
theorem dX0_richest_0 : decode cX0_richest 0 = .ok (.iconst (-1), 1) := dk_2 (dk_at dksX0_richest_0 0 rfl rfl)
theorem dX0_richest_1 : decode cX0_richest 1 = .ok (.istore_n 1, 1) := dk_60 (dk_at dksX0_richest_0 1 rfl rfl)
theorem dX0_richest_2 : decode cX0_richest 2 = .ok (.iconst 0, 1) := dk_3 (dk_at dksX0_richest_0 2 rfl rfl)
theorem dX0_richest_3 : decode cX0_richest 3 = .ok (.istore_n 2, 1) := dk_61 (dk_at dksX0_richest_0 3 rfl rfl)
theorem dX0_richest_4 : decode cX0_richest 4 = .ok (.iload_n 2, 1) := dk_28 (dk_at dksX0_richest_0 4 rfl rfl)
theorem dX0_richest_5 : decode cX0_richest 5 = .ok (.aload_n 0, 1) := dk_42 (dk_at dksX0_richest_0 5 rfl rfl)
theorem dX0_richest_6 : decode cX0_richest 6 = .ok (.invokevirtual 126, 3) := dk_182 0 126 (dk_at dksX0_richest_0 6 rfl rfl)
theorem dX0_richest_9 : decode cX0_richest 9 = .ok (.if_icmp .ge 38, 3) := dk_162 0 38 (dk_at dksX0_richest_0 9 rfl rfl)
theorem dX0_richest_12 : decode cX0_richest 12 = .ok (.iload_n 1, 1) := dk_27 (dk_at dksX0_richest_0 12 rfl rfl)
theorem dX0_richest_13 : decode cX0_richest 13 = .ok (.ifCond .lt 22, 3) := dk_155 0 22 (dk_at dksX0_richest_0 13 rfl rfl)
theorem dX0_richest_16 : decode cX0_richest 16 = .ok (.aload_n 0, 1) := dk_42 (dk_at dksX0_richest_0 16 rfl rfl)
theorem dX0_richest_17 : decode cX0_richest 17 = .ok (.getfield 31, 3) := dk_180 0 31 (dk_at dksX0_richest_0 17 rfl rfl)
theorem dX0_richest_20 : decode cX0_richest 20 = .ok (.iload_n 2, 1) := dk_28 (dk_at dksX0_richest_0 20 rfl rfl)
theorem dX0_richest_21 : decode cX0_richest 21 = .ok (.invokevirtual 165, 3) := dk_182 0 165 (dk_at dksX0_richest_0 21 rfl rfl)
theorem dX0_richest_24 : decode cX0_richest 24 = .ok (.aload_n 0, 1) := dk_42 (dk_at dksX0_richest_1 0 rfl rfl)
theorem dX0_richest_25 : decode cX0_richest 25 = .ok (.getfield 31, 3) := dk_180 0 31 (dk_at dksX0_richest_1 1 rfl rfl)
theorem dX0_richest_28 : decode cX0_richest 28 = .ok (.iload_n 1, 1) := dk_27 (dk_at dksX0_richest_1 4 rfl rfl)
theorem dX0_richest_29 : decode cX0_richest 29 = .ok (.invokevirtual 165, 3) := dk_182 0 165 (dk_at dksX0_richest_1 5 rfl rfl)
theorem dX0_richest_32 : decode cX0_richest 32 = .ok (.if_icmp .le 7, 3) := dk_164 0 7 (dk_at dksX0_richest_1 8 rfl rfl)
theorem dX0_richest_35 : decode cX0_richest 35 = .ok (.iload_n 2, 1) := dk_28 (dk_at dksX0_richest_1 11 rfl rfl)
theorem dX0_richest_36 : decode cX0_richest 36 = .ok (.goto 4, 3) := dk_167 0 4 (dk_at dksX0_richest_1 12 rfl rfl)
theorem dX0_richest_39 : decode cX0_richest 39 = .ok (.iload_n 1, 1) := dk_27 (dk_at dksX0_richest_1 15 rfl rfl)
theorem dX0_richest_40 : decode cX0_richest 40 = .ok (.istore_n 1, 1) := dk_60 (dk_at dksX0_richest_1 16 rfl rfl)
theorem dX0_richest_41 : decode cX0_richest 41 = .ok (.iinc 2 1, 3) := dk_132 2 1 (dk_at dksX0_richest_1 17 rfl rfl)
theorem dX0_richest_44 : decode cX0_richest 44 = .ok (.goto (-40), 3) := dk_167 255 216 (dk_at dksX0_richest_1 20 rfl rfl)
theorem dX0_richest_47 : decode cX0_richest 47 = .ok (.iload_n 1, 1) := dk_27 (dk_at dksX0_richest_1 23 rfl rfl)
theorem dX0_richest_48 : decode cX0_richest 48 = .ok (.ireturn, 1) := dk_172 (dk_at dksX0_richest_2 0 rfl rfl)
abbrev cX0_gulf : ByteArray := prog_1_method_50_code
def yX0_gulf : MethodName := ⟨RX0, "gulf", "()I"⟩
def dkwX0_gulf_2 : List UInt8 := [167, 255, 219, 42, 182, 0, 126, 154, 0, 7, 2, 167, 0, 6, 27, 28, 100, 172]
abbrev dktX0_gulf_2 : List UInt8 := dkwX0_gulf_2 ++ []
def dkwX0_gulf_1 : List UInt8 := [182, 0, 165, 184, 0, 211, 60, 28, 42, 180, 0, 31, 29, 182, 0, 165, 184, 1, 37, 61, 132, 3, 1]
abbrev dktX0_gulf_1 : List UInt8 := dkwX0_gulf_1 ++ dktX0_gulf_2
def dkwX0_gulf_0 : List UInt8 := [2, 60, 17, 1, 41, 61, 3, 62, 29, 42, 182, 0, 126, 162, 0, 35, 27, 42, 180, 0, 31, 29]
abbrev dktX0_gulf_0 : List UInt8 := dkwX0_gulf_0 ++ dktX0_gulf_1
theorem dksX0_gulf_0 : cX0_gulf.data.toList.drop 0 = dktX0_gulf_0 := by decide +kernel
theorem dksX0_gulf_1 : cX0_gulf.data.toList.drop 22 = dktX0_gulf_1 := dk_seg dksX0_gulf_0 22 rfl rfl
theorem dksX0_gulf_2 : cX0_gulf.data.toList.drop 45 = dktX0_gulf_2 := dk_seg dksX0_gulf_1 23 rfl rfl
theorem dX0_gulf_0 : decode cX0_gulf 0 = .ok (.iconst (-1), 1) := dk_2 (dk_at dksX0_gulf_0 0 rfl rfl)
theorem dX0_gulf_1 : decode cX0_gulf 1 = .ok (.istore_n 1, 1) := dk_60 (dk_at dksX0_gulf_0 1 rfl rfl)
theorem dX0_gulf_2 : decode cX0_gulf 2 = .ok (.sipush 297, 3) := dk_17 1 41 (dk_at dksX0_gulf_0 2 rfl rfl)
theorem dX0_gulf_5 : decode cX0_gulf 5 = .ok (.istore_n 2, 1) := dk_61 (dk_at dksX0_gulf_0 5 rfl rfl)
theorem dX0_gulf_6 : decode cX0_gulf 6 = .ok (.iconst 0, 1) := dk_3 (dk_at dksX0_gulf_0 6 rfl rfl)
theorem dX0_gulf_7 : decode cX0_gulf 7 = .ok (.istore_n 3, 1) := dk_62 (dk_at dksX0_gulf_0 7 rfl rfl)
theorem dX0_gulf_8 : decode cX0_gulf 8 = .ok (.iload_n 3, 1) := dk_29 (dk_at dksX0_gulf_0 8 rfl rfl)
theorem dX0_gulf_9 : decode cX0_gulf 9 = .ok (.aload_n 0, 1) := dk_42 (dk_at dksX0_gulf_0 9 rfl rfl)
theorem dX0_gulf_10 : decode cX0_gulf 10 = .ok (.invokevirtual 126, 3) := dk_182 0 126 (dk_at dksX0_gulf_0 10 rfl rfl)
theorem dX0_gulf_13 : decode cX0_gulf 13 = .ok (.if_icmp .ge 35, 3) := dk_162 0 35 (dk_at dksX0_gulf_0 13 rfl rfl)
theorem dX0_gulf_16 : decode cX0_gulf 16 = .ok (.iload_n 1, 1) := dk_27 (dk_at dksX0_gulf_0 16 rfl rfl)
theorem dX0_gulf_17 : decode cX0_gulf 17 = .ok (.aload_n 0, 1) := dk_42 (dk_at dksX0_gulf_0 17 rfl rfl)
theorem dX0_gulf_18 : decode cX0_gulf 18 = .ok (.getfield 31, 3) := dk_180 0 31 (dk_at dksX0_gulf_0 18 rfl rfl)
theorem dX0_gulf_21 : decode cX0_gulf 21 = .ok (.iload_n 3, 1) := dk_29 (dk_at dksX0_gulf_0 21 rfl rfl)
theorem dX0_gulf_22 : decode cX0_gulf 22 = .ok (.invokevirtual 165, 3) := dk_182 0 165 (dk_at dksX0_gulf_1 0 rfl rfl)
theorem dX0_gulf_25 : decode cX0_gulf 25 = .ok (.invokestatic 211, 3) := dk_184 0 211 (dk_at dksX0_gulf_1 3 rfl rfl)
theorem dX0_gulf_28 : decode cX0_gulf 28 = .ok (.istore_n 1, 1) := dk_60 (dk_at dksX0_gulf_1 6 rfl rfl)
theorem dX0_gulf_29 : decode cX0_gulf 29 = .ok (.iload_n 2, 1) := dk_28 (dk_at dksX0_gulf_1 7 rfl rfl)
theorem dX0_gulf_30 : decode cX0_gulf 30 = .ok (.aload_n 0, 1) := dk_42 (dk_at dksX0_gulf_1 8 rfl rfl)
theorem dX0_gulf_31 : decode cX0_gulf 31 = .ok (.getfield 31, 3) := dk_180 0 31 (dk_at dksX0_gulf_1 9 rfl rfl)
theorem dX0_gulf_34 : decode cX0_gulf 34 = .ok (.iload_n 3, 1) := dk_29 (dk_at dksX0_gulf_1 12 rfl rfl)
theorem dX0_gulf_35 : decode cX0_gulf 35 = .ok (.invokevirtual 165, 3) := dk_182 0 165 (dk_at dksX0_gulf_1 13 rfl rfl)
theorem dX0_gulf_38 : decode cX0_gulf 38 = .ok (.invokestatic 293, 3) := dk_184 1 37 (dk_at dksX0_gulf_1 16 rfl rfl)
theorem dX0_gulf_41 : decode cX0_gulf 41 = .ok (.istore_n 2, 1) := dk_61 (dk_at dksX0_gulf_1 19 rfl rfl)
theorem dX0_gulf_42 : decode cX0_gulf 42 = .ok (.iinc 3 1, 3) := dk_132 3 1 (dk_at dksX0_gulf_1 20 rfl rfl)
theorem dX0_gulf_45 : decode cX0_gulf 45 = .ok (.goto (-37), 3) := dk_167 255 219 (dk_at dksX0_gulf_2 0 rfl rfl)
theorem dX0_gulf_48 : decode cX0_gulf 48 = .ok (.aload_n 0, 1) := dk_42 (dk_at dksX0_gulf_2 3 rfl rfl)
theorem dX0_gulf_49 : decode cX0_gulf 49 = .ok (.invokevirtual 126, 3) := dk_182 0 126 (dk_at dksX0_gulf_2 4 rfl rfl)
theorem dX0_gulf_52 : decode cX0_gulf 52 = .ok (.ifCond .ne 7, 3) := dk_154 0 7 (dk_at dksX0_gulf_2 7 rfl rfl)
theorem dX0_gulf_55 : decode cX0_gulf 55 = .ok (.iconst (-1), 1) := dk_2 (dk_at dksX0_gulf_2 10 rfl rfl)
theorem dX0_gulf_56 : decode cX0_gulf 56 = .ok (.goto 6, 3) := dk_167 0 6 (dk_at dksX0_gulf_2 11 rfl rfl)
theorem dX0_gulf_59 : decode cX0_gulf 59 = .ok (.iload_n 1, 1) := dk_27 (dk_at dksX0_gulf_2 14 rfl rfl)
theorem dX0_gulf_60 : decode cX0_gulf 60 = .ok (.iload_n 2, 1) := dk_28 (dk_at dksX0_gulf_2 15 rfl rfl)
theorem dX0_gulf_61 : decode cX0_gulf 61 = .ok (.isub, 1) := dk_100 (dk_at dksX0_gulf_2 16 rfl rfl)
theorem dX0_gulf_62 : decode cX0_gulf 62 = .ok (.ireturn, 1) := dk_172 (dk_at dksX0_gulf_2 17 rfl rfl)
abbrev cX0_most : ByteArray := prog_1_method_51_code
def yX0_most : MethodName := ⟨RX0, "most", "(I)I"⟩
def dkwX0_most_2 : List UInt8 := [29, 167, 0, 4, 28, 61, 132, 3, 1, 167, 255, 214, 28, 172]
abbrev dktX0_most_2 : List UInt8 := dkwX0_most_2 ++ []
def dkwX0_most_1 : List UInt8 := [155, 0, 24, 42, 180, 0, 31, 27, 29, 182, 0, 182, 42, 180, 0, 31, 27, 28, 182, 0, 182, 164, 0, 7]
abbrev dktX0_most_1 : List UInt8 := dkwX0_most_1 ++ dktX0_most_2
def dkwX0_most_0 : List UInt8 := [42, 27, 182, 0, 144, 154, 0, 5, 2, 172, 2, 61, 3, 62, 29, 42, 182, 0, 142, 162, 0, 40, 28]
abbrev dktX0_most_0 : List UInt8 := dkwX0_most_0 ++ dktX0_most_1
theorem dksX0_most_0 : cX0_most.data.toList.drop 0 = dktX0_most_0 := by decide +kernel
theorem dksX0_most_1 : cX0_most.data.toList.drop 23 = dktX0_most_1 := dk_seg dksX0_most_0 23 rfl rfl
theorem dksX0_most_2 : cX0_most.data.toList.drop 47 = dktX0_most_2 := dk_seg dksX0_most_1 24 rfl rfl
theorem dX0_most_0 : decode cX0_most 0 = .ok (.aload_n 0, 1) := dk_42 (dk_at dksX0_most_0 0 rfl rfl)
theorem dX0_most_1 : decode cX0_most 1 = .ok (.iload_n 1, 1) := dk_27 (dk_at dksX0_most_0 1 rfl rfl)
theorem dX0_most_2 : decode cX0_most 2 = .ok (.invokevirtual 144, 3) := dk_182 0 144 (dk_at dksX0_most_0 2 rfl rfl)
theorem dX0_most_5 : decode cX0_most 5 = .ok (.ifCond .ne 5, 3) := dk_154 0 5 (dk_at dksX0_most_0 5 rfl rfl)
theorem dX0_most_8 : decode cX0_most 8 = .ok (.iconst (-1), 1) := dk_2 (dk_at dksX0_most_0 8 rfl rfl)
theorem dX0_most_9 : decode cX0_most 9 = .ok (.ireturn, 1) := dk_172 (dk_at dksX0_most_0 9 rfl rfl)
theorem dX0_most_10 : decode cX0_most 10 = .ok (.iconst (-1), 1) := dk_2 (dk_at dksX0_most_0 10 rfl rfl)
theorem dX0_most_11 : decode cX0_most 11 = .ok (.istore_n 2, 1) := dk_61 (dk_at dksX0_most_0 11 rfl rfl)
theorem dX0_most_12 : decode cX0_most 12 = .ok (.iconst 0, 1) := dk_3 (dk_at dksX0_most_0 12 rfl rfl)
theorem dX0_most_13 : decode cX0_most 13 = .ok (.istore_n 3, 1) := dk_62 (dk_at dksX0_most_0 13 rfl rfl)
theorem dX0_most_14 : decode cX0_most 14 = .ok (.iload_n 3, 1) := dk_29 (dk_at dksX0_most_0 14 rfl rfl)
theorem dX0_most_15 : decode cX0_most 15 = .ok (.aload_n 0, 1) := dk_42 (dk_at dksX0_most_0 15 rfl rfl)
theorem dX0_most_16 : decode cX0_most 16 = .ok (.invokevirtual 142, 3) := dk_182 0 142 (dk_at dksX0_most_0 16 rfl rfl)
theorem dX0_most_19 : decode cX0_most 19 = .ok (.if_icmp .ge 40, 3) := dk_162 0 40 (dk_at dksX0_most_0 19 rfl rfl)
theorem dX0_most_22 : decode cX0_most 22 = .ok (.iload_n 2, 1) := dk_28 (dk_at dksX0_most_0 22 rfl rfl)
theorem dX0_most_23 : decode cX0_most 23 = .ok (.ifCond .lt 24, 3) := dk_155 0 24 (dk_at dksX0_most_1 0 rfl rfl)
theorem dX0_most_26 : decode cX0_most 26 = .ok (.aload_n 0, 1) := dk_42 (dk_at dksX0_most_1 3 rfl rfl)
theorem dX0_most_27 : decode cX0_most 27 = .ok (.getfield 31, 3) := dk_180 0 31 (dk_at dksX0_most_1 4 rfl rfl)
theorem dX0_most_30 : decode cX0_most 30 = .ok (.iload_n 1, 1) := dk_27 (dk_at dksX0_most_1 7 rfl rfl)
theorem dX0_most_31 : decode cX0_most 31 = .ok (.iload_n 3, 1) := dk_29 (dk_at dksX0_most_1 8 rfl rfl)
theorem dX0_most_32 : decode cX0_most 32 = .ok (.invokevirtual 182, 3) := dk_182 0 182 (dk_at dksX0_most_1 9 rfl rfl)
theorem dX0_most_35 : decode cX0_most 35 = .ok (.aload_n 0, 1) := dk_42 (dk_at dksX0_most_1 12 rfl rfl)
theorem dX0_most_36 : decode cX0_most 36 = .ok (.getfield 31, 3) := dk_180 0 31 (dk_at dksX0_most_1 13 rfl rfl)
theorem dX0_most_39 : decode cX0_most 39 = .ok (.iload_n 1, 1) := dk_27 (dk_at dksX0_most_1 16 rfl rfl)
theorem dX0_most_40 : decode cX0_most 40 = .ok (.iload_n 2, 1) := dk_28 (dk_at dksX0_most_1 17 rfl rfl)
theorem dX0_most_41 : decode cX0_most 41 = .ok (.invokevirtual 182, 3) := dk_182 0 182 (dk_at dksX0_most_1 18 rfl rfl)
theorem dX0_most_44 : decode cX0_most 44 = .ok (.if_icmp .le 7, 3) := dk_164 0 7 (dk_at dksX0_most_1 21 rfl rfl)
theorem dX0_most_47 : decode cX0_most 47 = .ok (.iload_n 3, 1) := dk_29 (dk_at dksX0_most_2 0 rfl rfl)
theorem dX0_most_48 : decode cX0_most 48 = .ok (.goto 4, 3) := dk_167 0 4 (dk_at dksX0_most_2 1 rfl rfl)
theorem dX0_most_51 : decode cX0_most 51 = .ok (.iload_n 2, 1) := dk_28 (dk_at dksX0_most_2 4 rfl rfl)
theorem dX0_most_52 : decode cX0_most 52 = .ok (.istore_n 2, 1) := dk_61 (dk_at dksX0_most_2 5 rfl rfl)
theorem dX0_most_53 : decode cX0_most 53 = .ok (.iinc 3 1, 3) := dk_132 3 1 (dk_at dksX0_most_2 6 rfl rfl)
theorem dX0_most_56 : decode cX0_most 56 = .ok (.goto (-42), 3) := dk_167 255 214 (dk_at dksX0_most_2 9 rfl rfl)
theorem dX0_most_59 : decode cX0_most 59 = .ok (.iload_n 2, 1) := dk_28 (dk_at dksX0_most_2 12 rfl rfl)
theorem dX0_most_60 : decode cX0_most 60 = .ok (.ireturn, 1) := dk_172 (dk_at dksX0_most_2 13 rfl rfl)
abbrev cX0_gain : ByteArray := prog_1_method_54_code
def yX0_gain : MethodName := ⟨RX0, "gain", "(I)I"⟩
def dkwX0_gain_5 : List UInt8 := [180, 1, 63, 42, 180, 1, 66, 42, 180, 1, 63, 184, 1, 72, 108, 172]
abbrev dktX0_gain_5 : List UInt8 := dkwX0_gain_5 ++ []
def dkwX0_gain_4 : List UInt8 := [27, 5, 160, 0, 10, 42, 180, 1, 60, 167, 0, 30, 27, 154, 0, 10, 42, 180, 1, 66, 167, 0, 7, 42]
abbrev dktX0_gain_4 : List UInt8 := dkwX0_gain_4 ++ dktX0_gain_5
def dkwX0_gain_3 : List UInt8 := [132, 2, 1, 167, 255, 231, 42, 180, 1, 60, 155, 0, 12, 27, 3, 5, 184, 0, 138, 154, 0, 5, 2, 172]
abbrev dktX0_gain_3 : List UInt8 := dkwX0_gain_3 ++ dktX0_gain_4
def dkwX0_gain_2 : List UInt8 := [28, 6, 162, 0, 26, 42, 182, 0, 142, 6, 160, 0, 18, 42, 3, 28, 6, 28, 100, 182, 1, 69]
abbrev dktX0_gain_2 : List UInt8 := dkwX0_gain_2 ++ dktX0_gain_3
def dkwX0_gain_1 : List UInt8 := [162, 0, 16, 42, 28, 29, 2, 182, 1, 69, 132, 3, 1, 167, 255, 238, 132, 2, 1, 167, 255, 220, 4, 61]
abbrev dktX0_gain_1 : List UInt8 := dkwX0_gain_1 ++ dktX0_gain_2
def dkwX0_gain_0 : List UInt8 := [42, 2, 181, 1, 60, 3, 61, 28, 42, 182, 0, 142, 162, 0, 34, 28, 4, 96, 62, 29, 42, 182, 0, 142]
abbrev dktX0_gain_0 : List UInt8 := dkwX0_gain_0 ++ dktX0_gain_1
theorem dksX0_gain_0 : cX0_gain.data.toList.drop 0 = dktX0_gain_0 := by decide +kernel
theorem dksX0_gain_1 : cX0_gain.data.toList.drop 24 = dktX0_gain_1 := dk_seg dksX0_gain_0 24 rfl rfl
theorem dksX0_gain_2 : cX0_gain.data.toList.drop 48 = dktX0_gain_2 := dk_seg dksX0_gain_1 24 rfl rfl
theorem dksX0_gain_3 : cX0_gain.data.toList.drop 70 = dktX0_gain_3 := dk_seg dksX0_gain_2 22 rfl rfl
theorem dksX0_gain_4 : cX0_gain.data.toList.drop 94 = dktX0_gain_4 := dk_seg dksX0_gain_3 24 rfl rfl
theorem dksX0_gain_5 : cX0_gain.data.toList.drop 118 = dktX0_gain_5 := dk_seg dksX0_gain_4 24 rfl rfl
theorem dX0_gain_0 : decode cX0_gain 0 = .ok (.aload_n 0, 1) := dk_42 (dk_at dksX0_gain_0 0 rfl rfl)
theorem dX0_gain_1 : decode cX0_gain 1 = .ok (.iconst (-1), 1) := dk_2 (dk_at dksX0_gain_0 1 rfl rfl)
theorem dX0_gain_2 : decode cX0_gain 2 = .ok (.putfield 316, 3) := dk_181 1 60 (dk_at dksX0_gain_0 2 rfl rfl)
theorem dX0_gain_5 : decode cX0_gain 5 = .ok (.iconst 0, 1) := dk_3 (dk_at dksX0_gain_0 5 rfl rfl)
theorem dX0_gain_6 : decode cX0_gain 6 = .ok (.istore_n 2, 1) := dk_61 (dk_at dksX0_gain_0 6 rfl rfl)
theorem dX0_gain_7 : decode cX0_gain 7 = .ok (.iload_n 2, 1) := dk_28 (dk_at dksX0_gain_0 7 rfl rfl)
theorem dX0_gain_8 : decode cX0_gain 8 = .ok (.aload_n 0, 1) := dk_42 (dk_at dksX0_gain_0 8 rfl rfl)
theorem dX0_gain_9 : decode cX0_gain 9 = .ok (.invokevirtual 142, 3) := dk_182 0 142 (dk_at dksX0_gain_0 9 rfl rfl)
theorem dX0_gain_12 : decode cX0_gain 12 = .ok (.if_icmp .ge 34, 3) := dk_162 0 34 (dk_at dksX0_gain_0 12 rfl rfl)
theorem dX0_gain_15 : decode cX0_gain 15 = .ok (.iload_n 2, 1) := dk_28 (dk_at dksX0_gain_0 15 rfl rfl)
theorem dX0_gain_16 : decode cX0_gain 16 = .ok (.iconst 1, 1) := dk_4 (dk_at dksX0_gain_0 16 rfl rfl)
theorem dX0_gain_17 : decode cX0_gain 17 = .ok (.iadd, 1) := dk_96 (dk_at dksX0_gain_0 17 rfl rfl)
theorem dX0_gain_18 : decode cX0_gain 18 = .ok (.istore_n 3, 1) := dk_62 (dk_at dksX0_gain_0 18 rfl rfl)
theorem dX0_gain_19 : decode cX0_gain 19 = .ok (.iload_n 3, 1) := dk_29 (dk_at dksX0_gain_0 19 rfl rfl)
theorem dX0_gain_20 : decode cX0_gain 20 = .ok (.aload_n 0, 1) := dk_42 (dk_at dksX0_gain_0 20 rfl rfl)
theorem dX0_gain_21 : decode cX0_gain 21 = .ok (.invokevirtual 142, 3) := dk_182 0 142 (dk_at dksX0_gain_0 21 rfl rfl)
theorem dX0_gain_24 : decode cX0_gain 24 = .ok (.if_icmp .ge 16, 3) := dk_162 0 16 (dk_at dksX0_gain_1 0 rfl rfl)
theorem dX0_gain_27 : decode cX0_gain 27 = .ok (.aload_n 0, 1) := dk_42 (dk_at dksX0_gain_1 3 rfl rfl)
theorem dX0_gain_28 : decode cX0_gain 28 = .ok (.iload_n 2, 1) := dk_28 (dk_at dksX0_gain_1 4 rfl rfl)
theorem dX0_gain_29 : decode cX0_gain 29 = .ok (.iload_n 3, 1) := dk_29 (dk_at dksX0_gain_1 5 rfl rfl)
theorem dX0_gain_30 : decode cX0_gain 30 = .ok (.iconst (-1), 1) := dk_2 (dk_at dksX0_gain_1 6 rfl rfl)
theorem dX0_gain_31 : decode cX0_gain 31 = .ok (.invokevirtual 325, 3) := dk_182 1 69 (dk_at dksX0_gain_1 7 rfl rfl)
theorem dX0_gain_34 : decode cX0_gain 34 = .ok (.iinc 3 1, 3) := dk_132 3 1 (dk_at dksX0_gain_1 10 rfl rfl)
theorem dX0_gain_37 : decode cX0_gain 37 = .ok (.goto (-18), 3) := dk_167 255 238 (dk_at dksX0_gain_1 13 rfl rfl)
theorem dX0_gain_40 : decode cX0_gain 40 = .ok (.iinc 2 1, 3) := dk_132 2 1 (dk_at dksX0_gain_1 16 rfl rfl)
theorem dX0_gain_43 : decode cX0_gain 43 = .ok (.goto (-36), 3) := dk_167 255 220 (dk_at dksX0_gain_1 19 rfl rfl)
theorem dX0_gain_46 : decode cX0_gain 46 = .ok (.iconst 1, 1) := dk_4 (dk_at dksX0_gain_1 22 rfl rfl)
theorem dX0_gain_47 : decode cX0_gain 47 = .ok (.istore_n 2, 1) := dk_61 (dk_at dksX0_gain_1 23 rfl rfl)
theorem dX0_gain_48 : decode cX0_gain 48 = .ok (.iload_n 2, 1) := dk_28 (dk_at dksX0_gain_2 0 rfl rfl)
theorem dX0_gain_49 : decode cX0_gain 49 = .ok (.iconst 3, 1) := dk_6 (dk_at dksX0_gain_2 1 rfl rfl)
theorem dX0_gain_50 : decode cX0_gain 50 = .ok (.if_icmp .ge 26, 3) := dk_162 0 26 (dk_at dksX0_gain_2 2 rfl rfl)
theorem dX0_gain_53 : decode cX0_gain 53 = .ok (.aload_n 0, 1) := dk_42 (dk_at dksX0_gain_2 5 rfl rfl)
theorem dX0_gain_54 : decode cX0_gain 54 = .ok (.invokevirtual 142, 3) := dk_182 0 142 (dk_at dksX0_gain_2 6 rfl rfl)
theorem dX0_gain_57 : decode cX0_gain 57 = .ok (.iconst 3, 1) := dk_6 (dk_at dksX0_gain_2 9 rfl rfl)
theorem dX0_gain_58 : decode cX0_gain 58 = .ok (.if_icmp .ne 18, 3) := dk_160 0 18 (dk_at dksX0_gain_2 10 rfl rfl)
theorem dX0_gain_61 : decode cX0_gain 61 = .ok (.aload_n 0, 1) := dk_42 (dk_at dksX0_gain_2 13 rfl rfl)
theorem dX0_gain_62 : decode cX0_gain 62 = .ok (.iconst 0, 1) := dk_3 (dk_at dksX0_gain_2 14 rfl rfl)
theorem dX0_gain_63 : decode cX0_gain 63 = .ok (.iload_n 2, 1) := dk_28 (dk_at dksX0_gain_2 15 rfl rfl)
theorem dX0_gain_64 : decode cX0_gain 64 = .ok (.iconst 3, 1) := dk_6 (dk_at dksX0_gain_2 16 rfl rfl)
theorem dX0_gain_65 : decode cX0_gain 65 = .ok (.iload_n 2, 1) := dk_28 (dk_at dksX0_gain_2 17 rfl rfl)
theorem dX0_gain_66 : decode cX0_gain 66 = .ok (.isub, 1) := dk_100 (dk_at dksX0_gain_2 18 rfl rfl)
theorem dX0_gain_67 : decode cX0_gain 67 = .ok (.invokevirtual 325, 3) := dk_182 1 69 (dk_at dksX0_gain_2 19 rfl rfl)
theorem dX0_gain_70 : decode cX0_gain 70 = .ok (.iinc 2 1, 3) := dk_132 2 1 (dk_at dksX0_gain_3 0 rfl rfl)
theorem dX0_gain_73 : decode cX0_gain 73 = .ok (.goto (-25), 3) := dk_167 255 231 (dk_at dksX0_gain_3 3 rfl rfl)
theorem dX0_gain_76 : decode cX0_gain 76 = .ok (.aload_n 0, 1) := dk_42 (dk_at dksX0_gain_3 6 rfl rfl)
theorem dX0_gain_77 : decode cX0_gain 77 = .ok (.getfield 316, 3) := dk_180 1 60 (dk_at dksX0_gain_3 7 rfl rfl)
theorem dX0_gain_80 : decode cX0_gain 80 = .ok (.ifCond .lt 12, 3) := dk_155 0 12 (dk_at dksX0_gain_3 10 rfl rfl)
theorem dX0_gain_83 : decode cX0_gain 83 = .ok (.iload_n 1, 1) := dk_27 (dk_at dksX0_gain_3 13 rfl rfl)
theorem dX0_gain_84 : decode cX0_gain 84 = .ok (.iconst 0, 1) := dk_3 (dk_at dksX0_gain_3 14 rfl rfl)
theorem dX0_gain_85 : decode cX0_gain 85 = .ok (.iconst 2, 1) := dk_5 (dk_at dksX0_gain_3 15 rfl rfl)
theorem dX0_gain_86 : decode cX0_gain 86 = .ok (.invokestatic 138, 3) := dk_184 0 138 (dk_at dksX0_gain_3 16 rfl rfl)
theorem dX0_gain_89 : decode cX0_gain 89 = .ok (.ifCond .ne 5, 3) := dk_154 0 5 (dk_at dksX0_gain_3 19 rfl rfl)
theorem dX0_gain_92 : decode cX0_gain 92 = .ok (.iconst (-1), 1) := dk_2 (dk_at dksX0_gain_3 22 rfl rfl)
theorem dX0_gain_93 : decode cX0_gain 93 = .ok (.ireturn, 1) := dk_172 (dk_at dksX0_gain_3 23 rfl rfl)
theorem dX0_gain_94 : decode cX0_gain 94 = .ok (.iload_n 1, 1) := dk_27 (dk_at dksX0_gain_4 0 rfl rfl)
theorem dX0_gain_95 : decode cX0_gain 95 = .ok (.iconst 2, 1) := dk_5 (dk_at dksX0_gain_4 1 rfl rfl)
theorem dX0_gain_96 : decode cX0_gain 96 = .ok (.if_icmp .ne 10, 3) := dk_160 0 10 (dk_at dksX0_gain_4 2 rfl rfl)
theorem dX0_gain_99 : decode cX0_gain 99 = .ok (.aload_n 0, 1) := dk_42 (dk_at dksX0_gain_4 5 rfl rfl)
theorem dX0_gain_100 : decode cX0_gain 100 = .ok (.getfield 316, 3) := dk_180 1 60 (dk_at dksX0_gain_4 6 rfl rfl)
theorem dX0_gain_103 : decode cX0_gain 103 = .ok (.goto 30, 3) := dk_167 0 30 (dk_at dksX0_gain_4 9 rfl rfl)
theorem dX0_gain_106 : decode cX0_gain 106 = .ok (.iload_n 1, 1) := dk_27 (dk_at dksX0_gain_4 12 rfl rfl)
theorem dX0_gain_107 : decode cX0_gain 107 = .ok (.ifCond .ne 10, 3) := dk_154 0 10 (dk_at dksX0_gain_4 13 rfl rfl)
theorem dX0_gain_110 : decode cX0_gain 110 = .ok (.aload_n 0, 1) := dk_42 (dk_at dksX0_gain_4 16 rfl rfl)
theorem dX0_gain_111 : decode cX0_gain 111 = .ok (.getfield 322, 3) := dk_180 1 66 (dk_at dksX0_gain_4 17 rfl rfl)
theorem dX0_gain_114 : decode cX0_gain 114 = .ok (.goto 7, 3) := dk_167 0 7 (dk_at dksX0_gain_4 20 rfl rfl)
theorem dX0_gain_117 : decode cX0_gain 117 = .ok (.aload_n 0, 1) := dk_42 (dk_at dksX0_gain_4 23 rfl rfl)
theorem dX0_gain_118 : decode cX0_gain 118 = .ok (.getfield 319, 3) := dk_180 1 63 (dk_at dksX0_gain_5 0 rfl rfl)
theorem dX0_gain_121 : decode cX0_gain 121 = .ok (.aload_n 0, 1) := dk_42 (dk_at dksX0_gain_5 3 rfl rfl)
theorem dX0_gain_122 : decode cX0_gain 122 = .ok (.getfield 322, 3) := dk_180 1 66 (dk_at dksX0_gain_5 4 rfl rfl)
theorem dX0_gain_125 : decode cX0_gain 125 = .ok (.aload_n 0, 1) := dk_42 (dk_at dksX0_gain_5 7 rfl rfl)
theorem dX0_gain_126 : decode cX0_gain 126 = .ok (.getfield 319, 3) := dk_180 1 63 (dk_at dksX0_gain_5 8 rfl rfl)
theorem dX0_gain_129 : decode cX0_gain 129 = .ok (.invokestatic 328, 3) := dk_184 1 72 (dk_at dksX0_gain_5 11 rfl rfl)
theorem dX0_gain_132 : decode cX0_gain 132 = .ok (.idiv, 1) := dk_108 (dk_at dksX0_gain_5 14 rfl rfl)
theorem dX0_gain_133 : decode cX0_gain 133 = .ok (.ireturn, 1) := dk_172 (dk_at dksX0_gain_5 15 rfl rfl)
abbrev cX0_tries : ByteArray := prog_1_method_52_code
def yX0_tries : MethodName := ⟨RX0, "tries", "(III)V"⟩
def dkwX0_tries_7 : List UInt8 := [16, 10, 27, 104, 28, 96, 167, 0, 14, 16, 100, 27, 104, 16, 10, 28, 104, 96, 29, 96, 181, 1, 60, 177]
abbrev dktX0_tries_7 : List UInt8 := dkwX0_tries_7 ++ []
def dkwX0_tries_6 : List UInt8 := [21, 8, 104, 163, 0, 4, 177, 42, 21, 7, 181, 1, 66, 42, 21, 8, 181, 1, 63, 42, 29, 156, 0, 12]
abbrev dktX0_tries_6 : List UInt8 := dkwX0_tries_6 ++ dktX0_tries_7
def dkwX0_tries_5 : List UInt8 := [180, 0, 236, 104, 54, 8, 42, 180, 1, 60, 155, 0, 21, 21, 7, 42, 180, 1, 63, 104, 42, 180, 1, 66]
abbrev dktX0_tries_5 : List UInt8 := dkwX0_tries_5 ++ dktX0_tries_6
def dkwX0_tries_4 : List UInt8 := [54, 7, 25, 4, 180, 0, 236, 25, 5, 180, 0, 236, 104, 25, 6, 199, 0, 7, 4, 167, 0, 8, 25, 6]
abbrev dktX0_tries_4 : List UInt8 := dkwX0_tries_4 ++ dktX0_tries_5
def dkwX0_tries_3 : List UInt8 := [180, 0, 241, 25, 5, 180, 0, 241, 104, 25, 6, 199, 0, 7, 4, 167, 0, 8, 25, 6, 180, 0, 241, 104]
abbrev dktX0_tries_3 : List UInt8 := dkwX0_tries_3 ++ dktX0_tries_4
def dkwX0_tries_2 : List UInt8 := [58, 6, 25, 4, 198, 0, 17, 25, 5, 198, 0, 12, 29, 155, 0, 9, 25, 6, 199, 0, 4, 177, 25, 4]
abbrev dktX0_tries_2 : List UInt8 := dkwX0_tries_2 ++ dktX0_tries_3
def dkwX0_tries_1 : List UInt8 := [29, 182, 0, 232, 58, 5, 29, 156, 0, 7, 1, 167, 0, 12, 42, 180, 0, 20, 29, 27, 182, 0, 232]
abbrev dktX0_tries_1 : List UInt8 := dkwX0_tries_1 ++ dktX0_tries_2
def dkwX0_tries_0 : List UInt8 := [42, 180, 0, 20, 27, 28, 182, 0, 232, 58, 4, 42, 180, 0, 20, 28, 29, 156, 0, 7, 27, 167, 0, 4]
abbrev dktX0_tries_0 : List UInt8 := dkwX0_tries_0 ++ dktX0_tries_1
theorem dksX0_tries_0 : cX0_tries.data.toList.drop 0 = dktX0_tries_0 := by decide +kernel
theorem dksX0_tries_1 : cX0_tries.data.toList.drop 24 = dktX0_tries_1 := dk_seg dksX0_tries_0 24 rfl rfl
theorem dksX0_tries_2 : cX0_tries.data.toList.drop 47 = dktX0_tries_2 := dk_seg dksX0_tries_1 23 rfl rfl
theorem dksX0_tries_3 : cX0_tries.data.toList.drop 71 = dktX0_tries_3 := dk_seg dksX0_tries_2 24 rfl rfl
theorem dksX0_tries_4 : cX0_tries.data.toList.drop 95 = dktX0_tries_4 := dk_seg dksX0_tries_3 24 rfl rfl
theorem dksX0_tries_5 : cX0_tries.data.toList.drop 119 = dktX0_tries_5 := dk_seg dksX0_tries_4 24 rfl rfl
theorem dksX0_tries_6 : cX0_tries.data.toList.drop 143 = dktX0_tries_6 := dk_seg dksX0_tries_5 24 rfl rfl
theorem dksX0_tries_7 : cX0_tries.data.toList.drop 167 = dktX0_tries_7 := dk_seg dksX0_tries_6 24 rfl rfl
theorem dX0_tries_0 : decode cX0_tries 0 = .ok (.aload_n 0, 1) := dk_42 (dk_at dksX0_tries_0 0 rfl rfl)
theorem dX0_tries_1 : decode cX0_tries 1 = .ok (.getfield 20, 3) := dk_180 0 20 (dk_at dksX0_tries_0 1 rfl rfl)
theorem dX0_tries_4 : decode cX0_tries 4 = .ok (.iload_n 1, 1) := dk_27 (dk_at dksX0_tries_0 4 rfl rfl)
theorem dX0_tries_5 : decode cX0_tries 5 = .ok (.iload_n 2, 1) := dk_28 (dk_at dksX0_tries_0 5 rfl rfl)
theorem dX0_tries_6 : decode cX0_tries 6 = .ok (.invokevirtual 232, 3) := dk_182 0 232 (dk_at dksX0_tries_0 6 rfl rfl)
theorem dX0_tries_9 : decode cX0_tries 9 = .ok (.astore 4, 2) := dk_58 4 (dk_at dksX0_tries_0 9 rfl rfl)
theorem dX0_tries_11 : decode cX0_tries 11 = .ok (.aload_n 0, 1) := dk_42 (dk_at dksX0_tries_0 11 rfl rfl)
theorem dX0_tries_12 : decode cX0_tries 12 = .ok (.getfield 20, 3) := dk_180 0 20 (dk_at dksX0_tries_0 12 rfl rfl)
theorem dX0_tries_15 : decode cX0_tries 15 = .ok (.iload_n 2, 1) := dk_28 (dk_at dksX0_tries_0 15 rfl rfl)
theorem dX0_tries_16 : decode cX0_tries 16 = .ok (.iload_n 3, 1) := dk_29 (dk_at dksX0_tries_0 16 rfl rfl)
theorem dX0_tries_17 : decode cX0_tries 17 = .ok (.ifCond .ge 7, 3) := dk_156 0 7 (dk_at dksX0_tries_0 17 rfl rfl)
theorem dX0_tries_20 : decode cX0_tries 20 = .ok (.iload_n 1, 1) := dk_27 (dk_at dksX0_tries_0 20 rfl rfl)
theorem dX0_tries_21 : decode cX0_tries 21 = .ok (.goto 4, 3) := dk_167 0 4 (dk_at dksX0_tries_0 21 rfl rfl)
theorem dX0_tries_24 : decode cX0_tries 24 = .ok (.iload_n 3, 1) := dk_29 (dk_at dksX0_tries_1 0 rfl rfl)
theorem dX0_tries_25 : decode cX0_tries 25 = .ok (.invokevirtual 232, 3) := dk_182 0 232 (dk_at dksX0_tries_1 1 rfl rfl)
theorem dX0_tries_28 : decode cX0_tries 28 = .ok (.astore 5, 2) := dk_58 5 (dk_at dksX0_tries_1 4 rfl rfl)
theorem dX0_tries_30 : decode cX0_tries 30 = .ok (.iload_n 3, 1) := dk_29 (dk_at dksX0_tries_1 6 rfl rfl)
theorem dX0_tries_31 : decode cX0_tries 31 = .ok (.ifCond .ge 7, 3) := dk_156 0 7 (dk_at dksX0_tries_1 7 rfl rfl)
theorem dX0_tries_34 : decode cX0_tries 34 = .ok (.aconst_null, 1) := dk_1 (dk_at dksX0_tries_1 10 rfl rfl)
theorem dX0_tries_35 : decode cX0_tries 35 = .ok (.goto 12, 3) := dk_167 0 12 (dk_at dksX0_tries_1 11 rfl rfl)
theorem dX0_tries_38 : decode cX0_tries 38 = .ok (.aload_n 0, 1) := dk_42 (dk_at dksX0_tries_1 14 rfl rfl)
theorem dX0_tries_39 : decode cX0_tries 39 = .ok (.getfield 20, 3) := dk_180 0 20 (dk_at dksX0_tries_1 15 rfl rfl)
theorem dX0_tries_42 : decode cX0_tries 42 = .ok (.iload_n 3, 1) := dk_29 (dk_at dksX0_tries_1 18 rfl rfl)
theorem dX0_tries_43 : decode cX0_tries 43 = .ok (.iload_n 1, 1) := dk_27 (dk_at dksX0_tries_1 19 rfl rfl)
theorem dX0_tries_44 : decode cX0_tries 44 = .ok (.invokevirtual 232, 3) := dk_182 0 232 (dk_at dksX0_tries_1 20 rfl rfl)
theorem dX0_tries_47 : decode cX0_tries 47 = .ok (.astore 6, 2) := dk_58 6 (dk_at dksX0_tries_2 0 rfl rfl)
theorem dX0_tries_49 : decode cX0_tries 49 = .ok (.aload 4, 2) := dk_25 4 (dk_at dksX0_tries_2 2 rfl rfl)
theorem dX0_tries_51 : decode cX0_tries 51 = .ok (.ifnull 17, 3) := dk_198 0 17 (dk_at dksX0_tries_2 4 rfl rfl)
theorem dX0_tries_54 : decode cX0_tries 54 = .ok (.aload 5, 2) := dk_25 5 (dk_at dksX0_tries_2 7 rfl rfl)
theorem dX0_tries_56 : decode cX0_tries 56 = .ok (.ifnull 12, 3) := dk_198 0 12 (dk_at dksX0_tries_2 9 rfl rfl)
theorem dX0_tries_59 : decode cX0_tries 59 = .ok (.iload_n 3, 1) := dk_29 (dk_at dksX0_tries_2 12 rfl rfl)
theorem dX0_tries_60 : decode cX0_tries 60 = .ok (.ifCond .lt 9, 3) := dk_155 0 9 (dk_at dksX0_tries_2 13 rfl rfl)
theorem dX0_tries_63 : decode cX0_tries 63 = .ok (.aload 6, 2) := dk_25 6 (dk_at dksX0_tries_2 16 rfl rfl)
theorem dX0_tries_65 : decode cX0_tries 65 = .ok (.ifnonnull 4, 3) := dk_199 0 4 (dk_at dksX0_tries_2 18 rfl rfl)
theorem dX0_tries_68 : decode cX0_tries 68 = .ok (.return_, 1) := dk_177 (dk_at dksX0_tries_2 21 rfl rfl)
theorem dX0_tries_69 : decode cX0_tries 69 = .ok (.aload 4, 2) := dk_25 4 (dk_at dksX0_tries_2 22 rfl rfl)
theorem dX0_tries_71 : decode cX0_tries 71 = .ok (.getfield 241, 3) := dk_180 0 241 (dk_at dksX0_tries_3 0 rfl rfl)
theorem dX0_tries_74 : decode cX0_tries 74 = .ok (.aload 5, 2) := dk_25 5 (dk_at dksX0_tries_3 3 rfl rfl)
theorem dX0_tries_76 : decode cX0_tries 76 = .ok (.getfield 241, 3) := dk_180 0 241 (dk_at dksX0_tries_3 5 rfl rfl)
theorem dX0_tries_79 : decode cX0_tries 79 = .ok (.imul, 1) := dk_104 (dk_at dksX0_tries_3 8 rfl rfl)
theorem dX0_tries_80 : decode cX0_tries 80 = .ok (.aload 6, 2) := dk_25 6 (dk_at dksX0_tries_3 9 rfl rfl)
theorem dX0_tries_82 : decode cX0_tries 82 = .ok (.ifnonnull 7, 3) := dk_199 0 7 (dk_at dksX0_tries_3 11 rfl rfl)
theorem dX0_tries_85 : decode cX0_tries 85 = .ok (.iconst 1, 1) := dk_4 (dk_at dksX0_tries_3 14 rfl rfl)
theorem dX0_tries_86 : decode cX0_tries 86 = .ok (.goto 8, 3) := dk_167 0 8 (dk_at dksX0_tries_3 15 rfl rfl)
theorem dX0_tries_89 : decode cX0_tries 89 = .ok (.aload 6, 2) := dk_25 6 (dk_at dksX0_tries_3 18 rfl rfl)
theorem dX0_tries_91 : decode cX0_tries 91 = .ok (.getfield 241, 3) := dk_180 0 241 (dk_at dksX0_tries_3 20 rfl rfl)
theorem dX0_tries_94 : decode cX0_tries 94 = .ok (.imul, 1) := dk_104 (dk_at dksX0_tries_3 23 rfl rfl)
theorem dX0_tries_95 : decode cX0_tries 95 = .ok (.istore 7, 2) := dk_54 7 (dk_at dksX0_tries_4 0 rfl rfl)
theorem dX0_tries_97 : decode cX0_tries 97 = .ok (.aload 4, 2) := dk_25 4 (dk_at dksX0_tries_4 2 rfl rfl)
theorem dX0_tries_99 : decode cX0_tries 99 = .ok (.getfield 236, 3) := dk_180 0 236 (dk_at dksX0_tries_4 4 rfl rfl)
theorem dX0_tries_102 : decode cX0_tries 102 = .ok (.aload 5, 2) := dk_25 5 (dk_at dksX0_tries_4 7 rfl rfl)
theorem dX0_tries_104 : decode cX0_tries 104 = .ok (.getfield 236, 3) := dk_180 0 236 (dk_at dksX0_tries_4 9 rfl rfl)
theorem dX0_tries_107 : decode cX0_tries 107 = .ok (.imul, 1) := dk_104 (dk_at dksX0_tries_4 12 rfl rfl)
theorem dX0_tries_108 : decode cX0_tries 108 = .ok (.aload 6, 2) := dk_25 6 (dk_at dksX0_tries_4 13 rfl rfl)
theorem dX0_tries_110 : decode cX0_tries 110 = .ok (.ifnonnull 7, 3) := dk_199 0 7 (dk_at dksX0_tries_4 15 rfl rfl)
theorem dX0_tries_113 : decode cX0_tries 113 = .ok (.iconst 1, 1) := dk_4 (dk_at dksX0_tries_4 18 rfl rfl)
theorem dX0_tries_114 : decode cX0_tries 114 = .ok (.goto 8, 3) := dk_167 0 8 (dk_at dksX0_tries_4 19 rfl rfl)
theorem dX0_tries_117 : decode cX0_tries 117 = .ok (.aload 6, 2) := dk_25 6 (dk_at dksX0_tries_4 22 rfl rfl)
theorem dX0_tries_119 : decode cX0_tries 119 = .ok (.getfield 236, 3) := dk_180 0 236 (dk_at dksX0_tries_5 0 rfl rfl)
theorem dX0_tries_122 : decode cX0_tries 122 = .ok (.imul, 1) := dk_104 (dk_at dksX0_tries_5 3 rfl rfl)
theorem dX0_tries_123 : decode cX0_tries 123 = .ok (.istore 8, 2) := dk_54 8 (dk_at dksX0_tries_5 4 rfl rfl)
theorem dX0_tries_125 : decode cX0_tries 125 = .ok (.aload_n 0, 1) := dk_42 (dk_at dksX0_tries_5 6 rfl rfl)
theorem dX0_tries_126 : decode cX0_tries 126 = .ok (.getfield 316, 3) := dk_180 1 60 (dk_at dksX0_tries_5 7 rfl rfl)
theorem dX0_tries_129 : decode cX0_tries 129 = .ok (.ifCond .lt 21, 3) := dk_155 0 21 (dk_at dksX0_tries_5 10 rfl rfl)
theorem dX0_tries_132 : decode cX0_tries 132 = .ok (.iload 7, 2) := dk_21 7 (dk_at dksX0_tries_5 13 rfl rfl)
theorem dX0_tries_134 : decode cX0_tries 134 = .ok (.aload_n 0, 1) := dk_42 (dk_at dksX0_tries_5 15 rfl rfl)
theorem dX0_tries_135 : decode cX0_tries 135 = .ok (.getfield 319, 3) := dk_180 1 63 (dk_at dksX0_tries_5 16 rfl rfl)
theorem dX0_tries_138 : decode cX0_tries 138 = .ok (.imul, 1) := dk_104 (dk_at dksX0_tries_5 19 rfl rfl)
theorem dX0_tries_139 : decode cX0_tries 139 = .ok (.aload_n 0, 1) := dk_42 (dk_at dksX0_tries_5 20 rfl rfl)
theorem dX0_tries_140 : decode cX0_tries 140 = .ok (.getfield 322, 3) := dk_180 1 66 (dk_at dksX0_tries_5 21 rfl rfl)
theorem dX0_tries_143 : decode cX0_tries 143 = .ok (.iload 8, 2) := dk_21 8 (dk_at dksX0_tries_6 0 rfl rfl)
theorem dX0_tries_145 : decode cX0_tries 145 = .ok (.imul, 1) := dk_104 (dk_at dksX0_tries_6 2 rfl rfl)
theorem dX0_tries_146 : decode cX0_tries 146 = .ok (.if_icmp .gt 4, 3) := dk_163 0 4 (dk_at dksX0_tries_6 3 rfl rfl)
theorem dX0_tries_149 : decode cX0_tries 149 = .ok (.return_, 1) := dk_177 (dk_at dksX0_tries_6 6 rfl rfl)
theorem dX0_tries_150 : decode cX0_tries 150 = .ok (.aload_n 0, 1) := dk_42 (dk_at dksX0_tries_6 7 rfl rfl)
theorem dX0_tries_151 : decode cX0_tries 151 = .ok (.iload 7, 2) := dk_21 7 (dk_at dksX0_tries_6 8 rfl rfl)
theorem dX0_tries_153 : decode cX0_tries 153 = .ok (.putfield 322, 3) := dk_181 1 66 (dk_at dksX0_tries_6 10 rfl rfl)
theorem dX0_tries_156 : decode cX0_tries 156 = .ok (.aload_n 0, 1) := dk_42 (dk_at dksX0_tries_6 13 rfl rfl)
theorem dX0_tries_157 : decode cX0_tries 157 = .ok (.iload 8, 2) := dk_21 8 (dk_at dksX0_tries_6 14 rfl rfl)
theorem dX0_tries_159 : decode cX0_tries 159 = .ok (.putfield 319, 3) := dk_181 1 63 (dk_at dksX0_tries_6 16 rfl rfl)
theorem dX0_tries_162 : decode cX0_tries 162 = .ok (.aload_n 0, 1) := dk_42 (dk_at dksX0_tries_6 19 rfl rfl)
theorem dX0_tries_163 : decode cX0_tries 163 = .ok (.iload_n 3, 1) := dk_29 (dk_at dksX0_tries_6 20 rfl rfl)
theorem dX0_tries_164 : decode cX0_tries 164 = .ok (.ifCond .ge 12, 3) := dk_156 0 12 (dk_at dksX0_tries_6 21 rfl rfl)
theorem dX0_tries_167 : decode cX0_tries 167 = .ok (.bipush 10, 2) := dk_16 10 (dk_at dksX0_tries_7 0 rfl rfl)
theorem dX0_tries_169 : decode cX0_tries 169 = .ok (.iload_n 1, 1) := dk_27 (dk_at dksX0_tries_7 2 rfl rfl)
theorem dX0_tries_170 : decode cX0_tries 170 = .ok (.imul, 1) := dk_104 (dk_at dksX0_tries_7 3 rfl rfl)
theorem dX0_tries_171 : decode cX0_tries 171 = .ok (.iload_n 2, 1) := dk_28 (dk_at dksX0_tries_7 4 rfl rfl)
theorem dX0_tries_172 : decode cX0_tries 172 = .ok (.iadd, 1) := dk_96 (dk_at dksX0_tries_7 5 rfl rfl)
theorem dX0_tries_173 : decode cX0_tries 173 = .ok (.goto 14, 3) := dk_167 0 14 (dk_at dksX0_tries_7 6 rfl rfl)
theorem dX0_tries_176 : decode cX0_tries 176 = .ok (.bipush 100, 2) := dk_16 100 (dk_at dksX0_tries_7 9 rfl rfl)
theorem dX0_tries_178 : decode cX0_tries 178 = .ok (.iload_n 1, 1) := dk_27 (dk_at dksX0_tries_7 11 rfl rfl)
theorem dX0_tries_179 : decode cX0_tries 179 = .ok (.imul, 1) := dk_104 (dk_at dksX0_tries_7 12 rfl rfl)
theorem dX0_tries_180 : decode cX0_tries 180 = .ok (.bipush 10, 2) := dk_16 10 (dk_at dksX0_tries_7 13 rfl rfl)
theorem dX0_tries_182 : decode cX0_tries 182 = .ok (.iload_n 2, 1) := dk_28 (dk_at dksX0_tries_7 15 rfl rfl)
theorem dX0_tries_183 : decode cX0_tries 183 = .ok (.imul, 1) := dk_104 (dk_at dksX0_tries_7 16 rfl rfl)
theorem dX0_tries_184 : decode cX0_tries 184 = .ok (.iadd, 1) := dk_96 (dk_at dksX0_tries_7 17 rfl rfl)
theorem dX0_tries_185 : decode cX0_tries 185 = .ok (.iload_n 3, 1) := dk_29 (dk_at dksX0_tries_7 18 rfl rfl)
theorem dX0_tries_186 : decode cX0_tries 186 = .ok (.iadd, 1) := dk_96 (dk_at dksX0_tries_7 19 rfl rfl)
theorem dX0_tries_187 : decode cX0_tries 187 = .ok (.putfield 316, 3) := dk_181 1 60 (dk_at dksX0_tries_7 20 rfl rfl)
theorem dX0_tries_190 : decode cX0_tries 190 = .ok (.return_, 1) := dk_177 (dk_at dksX0_tries_7 23 rfl rfl)
abbrev cX0_common : ByteArray := prog_1_method_53_code
def yX0_common : MethodName := ⟨RX0, "common", "(II)I"⟩
def dkwX0_common_0 : List UInt8 := [26, 61, 27, 62, 29, 153, 0, 16, 28, 29, 112, 54, 4, 29, 61, 21, 4, 62, 167, 255, 242, 28, 172]
abbrev dktX0_common_0 : List UInt8 := dkwX0_common_0 ++ []
theorem dksX0_common_0 : cX0_common.data.toList.drop 0 = dktX0_common_0 := by decide +kernel
theorem dX0_common_0 : decode cX0_common 0 = .ok (.iload_n 0, 1) := dk_26 (dk_at dksX0_common_0 0 rfl rfl)
theorem dX0_common_1 : decode cX0_common 1 = .ok (.istore_n 2, 1) := dk_61 (dk_at dksX0_common_0 1 rfl rfl)
theorem dX0_common_2 : decode cX0_common 2 = .ok (.iload_n 1, 1) := dk_27 (dk_at dksX0_common_0 2 rfl rfl)
theorem dX0_common_3 : decode cX0_common 3 = .ok (.istore_n 3, 1) := dk_62 (dk_at dksX0_common_0 3 rfl rfl)
theorem dX0_common_4 : decode cX0_common 4 = .ok (.iload_n 3, 1) := dk_29 (dk_at dksX0_common_0 4 rfl rfl)
theorem dX0_common_5 : decode cX0_common 5 = .ok (.ifCond .eq 16, 3) := dk_153 0 16 (dk_at dksX0_common_0 5 rfl rfl)
theorem dX0_common_8 : decode cX0_common 8 = .ok (.iload_n 2, 1) := dk_28 (dk_at dksX0_common_0 8 rfl rfl)
theorem dX0_common_9 : decode cX0_common 9 = .ok (.iload_n 3, 1) := dk_29 (dk_at dksX0_common_0 9 rfl rfl)
theorem dX0_common_10 : decode cX0_common 10 = .ok (.irem, 1) := dk_112 (dk_at dksX0_common_0 10 rfl rfl)
theorem dX0_common_11 : decode cX0_common 11 = .ok (.istore 4, 2) := dk_54 4 (dk_at dksX0_common_0 11 rfl rfl)
theorem dX0_common_13 : decode cX0_common 13 = .ok (.iload_n 3, 1) := dk_29 (dk_at dksX0_common_0 13 rfl rfl)
theorem dX0_common_14 : decode cX0_common 14 = .ok (.istore_n 2, 1) := dk_61 (dk_at dksX0_common_0 14 rfl rfl)
theorem dX0_common_15 : decode cX0_common 15 = .ok (.iload 4, 2) := dk_21 4 (dk_at dksX0_common_0 15 rfl rfl)
theorem dX0_common_17 : decode cX0_common 17 = .ok (.istore_n 3, 1) := dk_62 (dk_at dksX0_common_0 17 rfl rfl)
theorem dX0_common_18 : decode cX0_common 18 = .ok (.goto (-14), 3) := dk_167 255 242 (dk_at dksX0_common_0 18 rfl rfl)
theorem dX0_common_21 : decode cX0_common 21 = .ok (.iload_n 2, 1) := dk_28 (dk_at dksX0_common_0 21 rfl rfl)
theorem dX0_common_22 : decode cX0_common 22 = .ok (.ireturn, 1) := dk_172 (dk_at dksX0_common_0 22 rfl rfl)
abbrev cX0_lies : ByteArray := prog_1_method_55_code
def yX0_lies : MethodName := ⟨RX0, "lies", "(I)I"⟩
def dkwX0_lies_1 : List UInt8 := [172]
abbrev dktX0_lies_1 : List UInt8 := dkwX0_lies_1 ++ []
def dkwX0_lies_0 : List UInt8 := [27, 3, 42, 180, 0, 109, 4, 100, 184, 0, 138, 153, 0, 12, 42, 180, 0, 55, 27, 46, 167, 0, 4, 2]
abbrev dktX0_lies_0 : List UInt8 := dkwX0_lies_0 ++ dktX0_lies_1
theorem dksX0_lies_0 : cX0_lies.data.toList.drop 0 = dktX0_lies_0 := by decide +kernel
theorem dksX0_lies_1 : cX0_lies.data.toList.drop 24 = dktX0_lies_1 := dk_seg dksX0_lies_0 24 rfl rfl
theorem dX0_lies_0 : decode cX0_lies 0 = .ok (.iload_n 1, 1) := dk_27 (dk_at dksX0_lies_0 0 rfl rfl)
theorem dX0_lies_1 : decode cX0_lies 1 = .ok (.iconst 0, 1) := dk_3 (dk_at dksX0_lies_0 1 rfl rfl)
theorem dX0_lies_2 : decode cX0_lies 2 = .ok (.aload_n 0, 1) := dk_42 (dk_at dksX0_lies_0 2 rfl rfl)
theorem dX0_lies_3 : decode cX0_lies 3 = .ok (.getfield 109, 3) := dk_180 0 109 (dk_at dksX0_lies_0 3 rfl rfl)
theorem dX0_lies_6 : decode cX0_lies 6 = .ok (.iconst 1, 1) := dk_4 (dk_at dksX0_lies_0 6 rfl rfl)
theorem dX0_lies_7 : decode cX0_lies 7 = .ok (.isub, 1) := dk_100 (dk_at dksX0_lies_0 7 rfl rfl)
theorem dX0_lies_8 : decode cX0_lies 8 = .ok (.invokestatic 138, 3) := dk_184 0 138 (dk_at dksX0_lies_0 8 rfl rfl)
theorem dX0_lies_11 : decode cX0_lies 11 = .ok (.ifCond .eq 12, 3) := dk_153 0 12 (dk_at dksX0_lies_0 11 rfl rfl)
theorem dX0_lies_14 : decode cX0_lies 14 = .ok (.aload_n 0, 1) := dk_42 (dk_at dksX0_lies_0 14 rfl rfl)
theorem dX0_lies_15 : decode cX0_lies 15 = .ok (.getfield 55, 3) := dk_180 0 55 (dk_at dksX0_lies_0 15 rfl rfl)
theorem dX0_lies_18 : decode cX0_lies 18 = .ok (.iload_n 1, 1) := dk_27 (dk_at dksX0_lies_0 18 rfl rfl)
theorem dX0_lies_19 : decode cX0_lies 19 = .ok (.iaload, 1) := dk_46 (dk_at dksX0_lies_0 19 rfl rfl)
theorem dX0_lies_20 : decode cX0_lies 20 = .ok (.goto 4, 3) := dk_167 0 4 (dk_at dksX0_lies_0 20 rfl rfl)
theorem dX0_lies_23 : decode cX0_lies 23 = .ok (.iconst (-1), 1) := dk_2 (dk_at dksX0_lies_0 23 rfl rfl)
theorem dX0_lies_24 : decode cX0_lies 24 = .ok (.ireturn, 1) := dk_172 (dk_at dksX0_lies_1 0 rfl rfl)
abbrev cX0_least : ByteArray := prog_1_method_60_code
def yX0_least : MethodName := ⟨RX0, "least", "(IIZ)I"⟩
def dkwX0_least_2 : List UInt8 := [183, 1, 93, 182, 1, 96, 172]
abbrev dktX0_least_2 : List UInt8 := dkwX0_least_2 ++ []
def dkwX0_least_1 : List UInt8 := [182, 0, 132, 16, 30, 160, 0, 7, 2, 167, 0, 19, 42, 187, 1, 91, 89, 42, 27, 2, 28, 29]
abbrev dktX0_least_1 : List UInt8 := dkwX0_least_1 ++ dktX0_least_2
def dkwX0_least_0 : List UInt8 := [42, 27, 182, 1, 88, 153, 0, 25, 28, 3, 16, 99, 184, 0, 138, 153, 0, 15, 42, 180, 0, 72]
abbrev dktX0_least_0 : List UInt8 := dkwX0_least_0 ++ dktX0_least_1
theorem dksX0_least_0 : cX0_least.data.toList.drop 0 = dktX0_least_0 := by decide +kernel
theorem dksX0_least_1 : cX0_least.data.toList.drop 22 = dktX0_least_1 := dk_seg dksX0_least_0 22 rfl rfl
theorem dksX0_least_2 : cX0_least.data.toList.drop 44 = dktX0_least_2 := dk_seg dksX0_least_1 22 rfl rfl
theorem dX0_least_0 : decode cX0_least 0 = .ok (.aload_n 0, 1) := dk_42 (dk_at dksX0_least_0 0 rfl rfl)
theorem dX0_least_1 : decode cX0_least 1 = .ok (.iload_n 1, 1) := dk_27 (dk_at dksX0_least_0 1 rfl rfl)
theorem dX0_least_2 : decode cX0_least 2 = .ok (.invokevirtual 344, 3) := dk_182 1 88 (dk_at dksX0_least_0 2 rfl rfl)
theorem dX0_least_5 : decode cX0_least 5 = .ok (.ifCond .eq 25, 3) := dk_153 0 25 (dk_at dksX0_least_0 5 rfl rfl)
theorem dX0_least_8 : decode cX0_least 8 = .ok (.iload_n 2, 1) := dk_28 (dk_at dksX0_least_0 8 rfl rfl)
theorem dX0_least_9 : decode cX0_least 9 = .ok (.iconst 0, 1) := dk_3 (dk_at dksX0_least_0 9 rfl rfl)
theorem dX0_least_10 : decode cX0_least 10 = .ok (.bipush 99, 2) := dk_16 99 (dk_at dksX0_least_0 10 rfl rfl)
theorem dX0_least_12 : decode cX0_least 12 = .ok (.invokestatic 138, 3) := dk_184 0 138 (dk_at dksX0_least_0 12 rfl rfl)
theorem dX0_least_15 : decode cX0_least 15 = .ok (.ifCond .eq 15, 3) := dk_153 0 15 (dk_at dksX0_least_0 15 rfl rfl)
theorem dX0_least_18 : decode cX0_least 18 = .ok (.aload_n 0, 1) := dk_42 (dk_at dksX0_least_0 18 rfl rfl)
theorem dX0_least_19 : decode cX0_least 19 = .ok (.getfield 72, 3) := dk_180 0 72 (dk_at dksX0_least_0 19 rfl rfl)
theorem dX0_least_22 : decode cX0_least 22 = .ok (.invokevirtual 132, 3) := dk_182 0 132 (dk_at dksX0_least_1 0 rfl rfl)
theorem dX0_least_25 : decode cX0_least 25 = .ok (.bipush 30, 2) := dk_16 30 (dk_at dksX0_least_1 3 rfl rfl)
theorem dX0_least_27 : decode cX0_least 27 = .ok (.if_icmp .ne 7, 3) := dk_160 0 7 (dk_at dksX0_least_1 5 rfl rfl)
theorem dX0_least_30 : decode cX0_least 30 = .ok (.iconst (-1), 1) := dk_2 (dk_at dksX0_least_1 8 rfl rfl)
theorem dX0_least_31 : decode cX0_least 31 = .ok (.goto 19, 3) := dk_167 0 19 (dk_at dksX0_least_1 9 rfl rfl)
theorem dX0_least_34 : decode cX0_least 34 = .ok (.aload_n 0, 1) := dk_42 (dk_at dksX0_least_1 12 rfl rfl)
theorem dX0_least_35 : decode cX0_least 35 = .ok (.new 347, 3) := dk_187 1 91 (dk_at dksX0_least_1 13 rfl rfl)
theorem dX0_least_38 : decode cX0_least 38 = .ok (.dup, 1) := dk_89 (dk_at dksX0_least_1 16 rfl rfl)
theorem dX0_least_39 : decode cX0_least 39 = .ok (.aload_n 0, 1) := dk_42 (dk_at dksX0_least_1 17 rfl rfl)
theorem dX0_least_40 : decode cX0_least 40 = .ok (.iload_n 1, 1) := dk_27 (dk_at dksX0_least_1 18 rfl rfl)
theorem dX0_least_41 : decode cX0_least 41 = .ok (.iconst (-1), 1) := dk_2 (dk_at dksX0_least_1 19 rfl rfl)
theorem dX0_least_42 : decode cX0_least 42 = .ok (.iload_n 2, 1) := dk_28 (dk_at dksX0_least_1 20 rfl rfl)
theorem dX0_least_43 : decode cX0_least 43 = .ok (.iload_n 3, 1) := dk_29 (dk_at dksX0_least_1 21 rfl rfl)
theorem dX0_least_44 : decode cX0_least 44 = .ok (.invokespecial 349, 3) := dk_183 1 93 (dk_at dksX0_least_2 0 rfl rfl)
theorem dX0_least_47 : decode cX0_least 47 = .ok (.invokevirtual 352, 3) := dk_182 1 96 (dk_at dksX0_least_2 3 rfl rfl)
theorem dX0_least_50 : decode cX0_least 50 = .ok (.ireturn, 1) := dk_172 (dk_at dksX0_least_2 6 rfl rfl)
abbrev cX0_isFirst : ByteArray := prog_1_method_57_code
def yX0_isFirst : MethodName := ⟨RX0, "isFirst", "(I)Z"⟩
def dkwX0_isFirst_0 : List UInt8 := [27, 3, 42, 182, 1, 78, 4, 100, 184, 0, 138, 172]
abbrev dktX0_isFirst_0 : List UInt8 := dkwX0_isFirst_0 ++ []
theorem dksX0_isFirst_0 : cX0_isFirst.data.toList.drop 0 = dktX0_isFirst_0 := by decide +kernel
theorem dX0_isFirst_0 : decode cX0_isFirst 0 = .ok (.iload_n 1, 1) := dk_27 (dk_at dksX0_isFirst_0 0 rfl rfl)
theorem dX0_isFirst_1 : decode cX0_isFirst 1 = .ok (.iconst 0, 1) := dk_3 (dk_at dksX0_isFirst_0 1 rfl rfl)
theorem dX0_isFirst_2 : decode cX0_isFirst 2 = .ok (.aload_n 0, 1) := dk_42 (dk_at dksX0_isFirst_0 2 rfl rfl)
theorem dX0_isFirst_3 : decode cX0_isFirst 3 = .ok (.invokevirtual 334, 3) := dk_182 1 78 (dk_at dksX0_isFirst_0 3 rfl rfl)
theorem dX0_isFirst_6 : decode cX0_isFirst 6 = .ok (.iconst 1, 1) := dk_4 (dk_at dksX0_isFirst_0 6 rfl rfl)
theorem dX0_isFirst_7 : decode cX0_isFirst 7 = .ok (.isub, 1) := dk_100 (dk_at dksX0_isFirst_0 7 rfl rfl)
theorem dX0_isFirst_8 : decode cX0_isFirst 8 = .ok (.invokestatic 138, 3) := dk_184 0 138 (dk_at dksX0_isFirst_0 8 rfl rfl)
theorem dX0_isFirst_11 : decode cX0_isFirst 11 = .ok (.ireturn, 1) := dk_172 (dk_at dksX0_isFirst_0 11 rfl rfl)
abbrev cX0_firstMen : ByteArray := prog_1_method_56_code
def yX0_firstMen : MethodName := ⟨RX0, "firstMen", "()I"⟩
def dkwX0_firstMen_0 : List UInt8 := [42, 182, 0, 126, 42, 180, 0, 20, 180, 1, 75, 184, 1, 37, 172]
abbrev dktX0_firstMen_0 : List UInt8 := dkwX0_firstMen_0 ++ []
theorem dksX0_firstMen_0 : cX0_firstMen.data.toList.drop 0 = dktX0_firstMen_0 := by decide +kernel
theorem dX0_firstMen_0 : decode cX0_firstMen 0 = .ok (.aload_n 0, 1) := dk_42 (dk_at dksX0_firstMen_0 0 rfl rfl)
theorem dX0_firstMen_1 : decode cX0_firstMen 1 = .ok (.invokevirtual 126, 3) := dk_182 0 126 (dk_at dksX0_firstMen_0 1 rfl rfl)
theorem dX0_firstMen_4 : decode cX0_firstMen 4 = .ok (.aload_n 0, 1) := dk_42 (dk_at dksX0_firstMen_0 4 rfl rfl)
theorem dX0_firstMen_5 : decode cX0_firstMen 5 = .ok (.getfield 20, 3) := dk_180 0 20 (dk_at dksX0_firstMen_0 5 rfl rfl)
theorem dX0_firstMen_8 : decode cX0_firstMen 8 = .ok (.getfield 331, 3) := dk_180 1 75 (dk_at dksX0_firstMen_0 8 rfl rfl)
theorem dX0_firstMen_11 : decode cX0_firstMen 11 = .ok (.invokestatic 293, 3) := dk_184 1 37 (dk_at dksX0_firstMen_0 11 rfl rfl)
theorem dX0_firstMen_14 : decode cX0_firstMen 14 = .ok (.ireturn, 1) := dk_172 (dk_at dksX0_firstMen_0 14 rfl rfl)
abbrev cX0_tell : ByteArray := prog_1_method_59_code
def yX0_tell : MethodName := ⟨RX0, "tell", "(LWeatherWages$Sight;)I"⟩
def dkwX0_tell_0 : List UInt8 := [42, 180, 0, 72, 43, 182, 1, 84, 87, 42, 180, 0, 72, 182, 0, 132, 4, 100, 172]
abbrev dktX0_tell_0 : List UInt8 := dkwX0_tell_0 ++ []
theorem dksX0_tell_0 : cX0_tell.data.toList.drop 0 = dktX0_tell_0 := by decide +kernel
theorem dX0_tell_0 : decode cX0_tell 0 = .ok (.aload_n 0, 1) := dk_42 (dk_at dksX0_tell_0 0 rfl rfl)
theorem dX0_tell_1 : decode cX0_tell 1 = .ok (.getfield 72, 3) := dk_180 0 72 (dk_at dksX0_tell_0 1 rfl rfl)
theorem dX0_tell_4 : decode cX0_tell 4 = .ok (.aload_n 1, 1) := dk_43 (dk_at dksX0_tell_0 4 rfl rfl)
theorem dX0_tell_5 : decode cX0_tell 5 = .ok (.invokevirtual 340, 3) := dk_182 1 84 (dk_at dksX0_tell_0 5 rfl rfl)
theorem dX0_tell_8 : decode cX0_tell 8 = .ok (.pop, 1) := dk_87 (dk_at dksX0_tell_0 8 rfl rfl)
theorem dX0_tell_9 : decode cX0_tell 9 = .ok (.aload_n 0, 1) := dk_42 (dk_at dksX0_tell_0 9 rfl rfl)
theorem dX0_tell_10 : decode cX0_tell 10 = .ok (.getfield 72, 3) := dk_180 0 72 (dk_at dksX0_tell_0 10 rfl rfl)
theorem dX0_tell_13 : decode cX0_tell 13 = .ok (.invokevirtual 132, 3) := dk_182 0 132 (dk_at dksX0_tell_0 13 rfl rfl)
theorem dX0_tell_16 : decode cX0_tell 16 = .ok (.iconst 1, 1) := dk_4 (dk_at dksX0_tell_0 16 rfl rfl)
theorem dX0_tell_17 : decode cX0_tell 17 = .ok (.isub, 1) := dk_100 (dk_at dksX0_tell_0 17 rfl rfl)
theorem dX0_tell_18 : decode cX0_tell 18 = .ok (.ireturn, 1) := dk_172 (dk_at dksX0_tell_0 18 rfl rfl)
abbrev cX0_more : ByteArray := prog_1_method_61_code
def yX0_more : MethodName := ⟨RX0, "more", "(IIZ)I"⟩
def dkwX0_more_2 : List UInt8 := [29, 183, 1, 93, 182, 1, 96, 172]
abbrev dktX0_more_2 : List UInt8 := dkwX0_more_2 ++ []
def dkwX0_more_1 : List UInt8 := [180, 0, 72, 182, 0, 132, 16, 30, 160, 0, 7, 2, 167, 0, 19, 42, 187, 1, 91, 89, 42, 27, 28, 2]
abbrev dktX0_more_1 : List UInt8 := dkwX0_more_1 ++ dktX0_more_2
def dkwX0_more_0 : List UInt8 := [42, 27, 182, 1, 88, 153, 0, 28, 42, 28, 182, 1, 88, 153, 0, 20, 27, 28, 159, 0, 15, 42]
abbrev dktX0_more_0 : List UInt8 := dkwX0_more_0 ++ dktX0_more_1
theorem dksX0_more_0 : cX0_more.data.toList.drop 0 = dktX0_more_0 := by decide +kernel
theorem dksX0_more_1 : cX0_more.data.toList.drop 22 = dktX0_more_1 := dk_seg dksX0_more_0 22 rfl rfl
theorem dksX0_more_2 : cX0_more.data.toList.drop 46 = dktX0_more_2 := dk_seg dksX0_more_1 24 rfl rfl
theorem dX0_more_0 : decode cX0_more 0 = .ok (.aload_n 0, 1) := dk_42 (dk_at dksX0_more_0 0 rfl rfl)
theorem dX0_more_1 : decode cX0_more 1 = .ok (.iload_n 1, 1) := dk_27 (dk_at dksX0_more_0 1 rfl rfl)
theorem dX0_more_2 : decode cX0_more 2 = .ok (.invokevirtual 344, 3) := dk_182 1 88 (dk_at dksX0_more_0 2 rfl rfl)
theorem dX0_more_5 : decode cX0_more 5 = .ok (.ifCond .eq 28, 3) := dk_153 0 28 (dk_at dksX0_more_0 5 rfl rfl)
theorem dX0_more_8 : decode cX0_more 8 = .ok (.aload_n 0, 1) := dk_42 (dk_at dksX0_more_0 8 rfl rfl)
theorem dX0_more_9 : decode cX0_more 9 = .ok (.iload_n 2, 1) := dk_28 (dk_at dksX0_more_0 9 rfl rfl)
theorem dX0_more_10 : decode cX0_more 10 = .ok (.invokevirtual 344, 3) := dk_182 1 88 (dk_at dksX0_more_0 10 rfl rfl)
theorem dX0_more_13 : decode cX0_more 13 = .ok (.ifCond .eq 20, 3) := dk_153 0 20 (dk_at dksX0_more_0 13 rfl rfl)
theorem dX0_more_16 : decode cX0_more 16 = .ok (.iload_n 1, 1) := dk_27 (dk_at dksX0_more_0 16 rfl rfl)
theorem dX0_more_17 : decode cX0_more 17 = .ok (.iload_n 2, 1) := dk_28 (dk_at dksX0_more_0 17 rfl rfl)
theorem dX0_more_18 : decode cX0_more 18 = .ok (.if_icmp .eq 15, 3) := dk_159 0 15 (dk_at dksX0_more_0 18 rfl rfl)
theorem dX0_more_21 : decode cX0_more 21 = .ok (.aload_n 0, 1) := dk_42 (dk_at dksX0_more_0 21 rfl rfl)
theorem dX0_more_22 : decode cX0_more 22 = .ok (.getfield 72, 3) := dk_180 0 72 (dk_at dksX0_more_1 0 rfl rfl)
theorem dX0_more_25 : decode cX0_more 25 = .ok (.invokevirtual 132, 3) := dk_182 0 132 (dk_at dksX0_more_1 3 rfl rfl)
theorem dX0_more_28 : decode cX0_more 28 = .ok (.bipush 30, 2) := dk_16 30 (dk_at dksX0_more_1 6 rfl rfl)
theorem dX0_more_30 : decode cX0_more 30 = .ok (.if_icmp .ne 7, 3) := dk_160 0 7 (dk_at dksX0_more_1 8 rfl rfl)
theorem dX0_more_33 : decode cX0_more 33 = .ok (.iconst (-1), 1) := dk_2 (dk_at dksX0_more_1 11 rfl rfl)
theorem dX0_more_34 : decode cX0_more 34 = .ok (.goto 19, 3) := dk_167 0 19 (dk_at dksX0_more_1 12 rfl rfl)
theorem dX0_more_37 : decode cX0_more 37 = .ok (.aload_n 0, 1) := dk_42 (dk_at dksX0_more_1 15 rfl rfl)
theorem dX0_more_38 : decode cX0_more 38 = .ok (.new 347, 3) := dk_187 1 91 (dk_at dksX0_more_1 16 rfl rfl)
theorem dX0_more_41 : decode cX0_more 41 = .ok (.dup, 1) := dk_89 (dk_at dksX0_more_1 19 rfl rfl)
theorem dX0_more_42 : decode cX0_more 42 = .ok (.aload_n 0, 1) := dk_42 (dk_at dksX0_more_1 20 rfl rfl)
theorem dX0_more_43 : decode cX0_more 43 = .ok (.iload_n 1, 1) := dk_27 (dk_at dksX0_more_1 21 rfl rfl)
theorem dX0_more_44 : decode cX0_more 44 = .ok (.iload_n 2, 1) := dk_28 (dk_at dksX0_more_1 22 rfl rfl)
theorem dX0_more_45 : decode cX0_more 45 = .ok (.iconst (-1), 1) := dk_2 (dk_at dksX0_more_1 23 rfl rfl)
theorem dX0_more_46 : decode cX0_more 46 = .ok (.iload_n 3, 1) := dk_29 (dk_at dksX0_more_2 0 rfl rfl)
theorem dX0_more_47 : decode cX0_more 47 = .ok (.invokespecial 349, 3) := dk_183 1 93 (dk_at dksX0_more_2 1 rfl rfl)
theorem dX0_more_50 : decode cX0_more 50 = .ok (.invokevirtual 352, 3) := dk_182 1 96 (dk_at dksX0_more_2 4 rfl rfl)
theorem dX0_more_53 : decode cX0_more 53 = .ok (.ireturn, 1) := dk_172 (dk_at dksX0_more_2 7 rfl rfl)
abbrev cX0_untell : ByteArray := prog_1_method_62_code
def yX0_untell : MethodName := ⟨RX0, "untell", "(I)Z"⟩
def dkwX0_untell_1 : List UInt8 := [182, 0, 149, 192, 1, 91, 182, 1, 100, 153, 0, 7, 4, 167, 0, 4, 3, 172]
abbrev dktX0_untell_1 : List UInt8 := dkwX0_untell_1 ++ []
def dkwX0_untell_0 : List UInt8 := [27, 3, 42, 180, 0, 72, 182, 0, 132, 4, 100, 184, 0, 138, 153, 0, 24, 42, 180, 0, 72, 27]
abbrev dktX0_untell_0 : List UInt8 := dkwX0_untell_0 ++ dktX0_untell_1
theorem dksX0_untell_0 : cX0_untell.data.toList.drop 0 = dktX0_untell_0 := by decide +kernel
theorem dksX0_untell_1 : cX0_untell.data.toList.drop 22 = dktX0_untell_1 := dk_seg dksX0_untell_0 22 rfl rfl
theorem dX0_untell_0 : decode cX0_untell 0 = .ok (.iload_n 1, 1) := dk_27 (dk_at dksX0_untell_0 0 rfl rfl)
theorem dX0_untell_1 : decode cX0_untell 1 = .ok (.iconst 0, 1) := dk_3 (dk_at dksX0_untell_0 1 rfl rfl)
theorem dX0_untell_2 : decode cX0_untell 2 = .ok (.aload_n 0, 1) := dk_42 (dk_at dksX0_untell_0 2 rfl rfl)
theorem dX0_untell_3 : decode cX0_untell 3 = .ok (.getfield 72, 3) := dk_180 0 72 (dk_at dksX0_untell_0 3 rfl rfl)
theorem dX0_untell_6 : decode cX0_untell 6 = .ok (.invokevirtual 132, 3) := dk_182 0 132 (dk_at dksX0_untell_0 6 rfl rfl)
theorem dX0_untell_9 : decode cX0_untell 9 = .ok (.iconst 1, 1) := dk_4 (dk_at dksX0_untell_0 9 rfl rfl)
theorem dX0_untell_10 : decode cX0_untell 10 = .ok (.isub, 1) := dk_100 (dk_at dksX0_untell_0 10 rfl rfl)
theorem dX0_untell_11 : decode cX0_untell 11 = .ok (.invokestatic 138, 3) := dk_184 0 138 (dk_at dksX0_untell_0 11 rfl rfl)
theorem dX0_untell_14 : decode cX0_untell 14 = .ok (.ifCond .eq 24, 3) := dk_153 0 24 (dk_at dksX0_untell_0 14 rfl rfl)
theorem dX0_untell_17 : decode cX0_untell 17 = .ok (.aload_n 0, 1) := dk_42 (dk_at dksX0_untell_0 17 rfl rfl)
theorem dX0_untell_18 : decode cX0_untell 18 = .ok (.getfield 72, 3) := dk_180 0 72 (dk_at dksX0_untell_0 18 rfl rfl)
theorem dX0_untell_21 : decode cX0_untell 21 = .ok (.iload_n 1, 1) := dk_27 (dk_at dksX0_untell_0 21 rfl rfl)
theorem dX0_untell_22 : decode cX0_untell 22 = .ok (.invokevirtual 149, 3) := dk_182 0 149 (dk_at dksX0_untell_1 0 rfl rfl)
theorem dX0_untell_25 : decode cX0_untell 25 = .ok (.checkcast 347, 3) := dk_192 1 91 (dk_at dksX0_untell_1 3 rfl rfl)
theorem dX0_untell_28 : decode cX0_untell 28 = .ok (.invokevirtual 356, 3) := dk_182 1 100 (dk_at dksX0_untell_1 6 rfl rfl)
theorem dX0_untell_31 : decode cX0_untell 31 = .ok (.ifCond .eq 7, 3) := dk_153 0 7 (dk_at dksX0_untell_1 9 rfl rfl)
theorem dX0_untell_34 : decode cX0_untell 34 = .ok (.iconst 1, 1) := dk_4 (dk_at dksX0_untell_1 12 rfl rfl)
theorem dX0_untell_35 : decode cX0_untell 35 = .ok (.goto 4, 3) := dk_167 0 4 (dk_at dksX0_untell_1 13 rfl rfl)
theorem dX0_untell_38 : decode cX0_untell 38 = .ok (.iconst 0, 1) := dk_3 (dk_at dksX0_untell_1 16 rfl rfl)
theorem dX0_untell_39 : decode cX0_untell 39 = .ok (.ireturn, 1) := dk_172 (dk_at dksX0_untell_1 17 rfl rfl)
abbrev cX0_later : ByteArray := prog_1_method_63_code
def yX0_later : MethodName := ⟨RX0, "later", "(I)I"⟩
def dkwX0_later_1 : List UInt8 := [172, 42, 89, 180, 1, 103, 27, 96, 181, 1, 103, 42, 180, 1, 103, 172]
abbrev dktX0_later_1 : List UInt8 := dkwX0_later_1 ++ []
def dkwX0_later_0 : List UInt8 := [27, 155, 0, 22, 27, 17, 3, 232, 163, 0, 15, 42, 180, 1, 103, 27, 96, 19, 1, 106, 164, 0, 5, 2]
abbrev dktX0_later_0 : List UInt8 := dkwX0_later_0 ++ dktX0_later_1
theorem dksX0_later_0 : cX0_later.data.toList.drop 0 = dktX0_later_0 := by decide +kernel
theorem dksX0_later_1 : cX0_later.data.toList.drop 24 = dktX0_later_1 := dk_seg dksX0_later_0 24 rfl rfl
theorem dX0_later_0 : decode cX0_later 0 = .ok (.iload_n 1, 1) := dk_27 (dk_at dksX0_later_0 0 rfl rfl)
theorem dX0_later_1 : decode cX0_later 1 = .ok (.ifCond .lt 22, 3) := dk_155 0 22 (dk_at dksX0_later_0 1 rfl rfl)
theorem dX0_later_4 : decode cX0_later 4 = .ok (.iload_n 1, 1) := dk_27 (dk_at dksX0_later_0 4 rfl rfl)
theorem dX0_later_5 : decode cX0_later 5 = .ok (.sipush 1000, 3) := dk_17 3 232 (dk_at dksX0_later_0 5 rfl rfl)
theorem dX0_later_8 : decode cX0_later 8 = .ok (.if_icmp .gt 15, 3) := dk_163 0 15 (dk_at dksX0_later_0 8 rfl rfl)
theorem dX0_later_11 : decode cX0_later 11 = .ok (.aload_n 0, 1) := dk_42 (dk_at dksX0_later_0 11 rfl rfl)
theorem dX0_later_12 : decode cX0_later 12 = .ok (.getfield 359, 3) := dk_180 1 103 (dk_at dksX0_later_0 12 rfl rfl)
theorem dX0_later_15 : decode cX0_later 15 = .ok (.iload_n 1, 1) := dk_27 (dk_at dksX0_later_0 15 rfl rfl)
theorem dX0_later_16 : decode cX0_later 16 = .ok (.iadd, 1) := dk_96 (dk_at dksX0_later_0 16 rfl rfl)
theorem dX0_later_17 : decode cX0_later 17 = .ok (.ldc_w 362, 3) := dk_19 1 106 (dk_at dksX0_later_0 17 rfl rfl)
theorem dX0_later_20 : decode cX0_later 20 = .ok (.if_icmp .le 5, 3) := dk_164 0 5 (dk_at dksX0_later_0 20 rfl rfl)
theorem dX0_later_23 : decode cX0_later 23 = .ok (.iconst (-1), 1) := dk_2 (dk_at dksX0_later_0 23 rfl rfl)
theorem dX0_later_24 : decode cX0_later 24 = .ok (.ireturn, 1) := dk_172 (dk_at dksX0_later_1 0 rfl rfl)
theorem dX0_later_25 : decode cX0_later 25 = .ok (.aload_n 0, 1) := dk_42 (dk_at dksX0_later_1 1 rfl rfl)
theorem dX0_later_26 : decode cX0_later 26 = .ok (.dup, 1) := dk_89 (dk_at dksX0_later_1 2 rfl rfl)
theorem dX0_later_27 : decode cX0_later 27 = .ok (.getfield 359, 3) := dk_180 1 103 (dk_at dksX0_later_1 3 rfl rfl)
theorem dX0_later_30 : decode cX0_later 30 = .ok (.iload_n 1, 1) := dk_27 (dk_at dksX0_later_1 6 rfl rfl)
theorem dX0_later_31 : decode cX0_later 31 = .ok (.iadd, 1) := dk_96 (dk_at dksX0_later_1 7 rfl rfl)
theorem dX0_later_32 : decode cX0_later 32 = .ok (.putfield 359, 3) := dk_181 1 103 (dk_at dksX0_later_1 8 rfl rfl)
theorem dX0_later_35 : decode cX0_later 35 = .ok (.aload_n 0, 1) := dk_42 (dk_at dksX0_later_1 11 rfl rfl)
theorem dX0_later_36 : decode cX0_later 36 = .ok (.getfield 359, 3) := dk_180 1 103 (dk_at dksX0_later_1 12 rfl rfl)
theorem dX0_later_39 : decode cX0_later 39 = .ok (.ireturn, 1) := dk_172 (dk_at dksX0_later_1 15 rfl rfl)
abbrev cX0_orders : ByteArray := prog_1_method_66_code
def yX0_orders : MethodName := ⟨RX0, "orders", "(I)I"⟩
def dkwX0_orders_0 : List UInt8 := [42, 27, 182, 1, 117, 172]
abbrev dktX0_orders_0 : List UInt8 := dkwX0_orders_0 ++ []
theorem dksX0_orders_0 : cX0_orders.data.toList.drop 0 = dktX0_orders_0 := by decide +kernel
theorem dX0_orders_0 : decode cX0_orders 0 = .ok (.aload_n 0, 1) := dk_42 (dk_at dksX0_orders_0 0 rfl rfl)
theorem dX0_orders_1 : decode cX0_orders 1 = .ok (.iload_n 1, 1) := dk_27 (dk_at dksX0_orders_0 1 rfl rfl)
theorem dX0_orders_2 : decode cX0_orders 2 = .ok (.invokevirtual 373, 3) := dk_182 1 117 (dk_at dksX0_orders_0 2 rfl rfl)
theorem dX0_orders_5 : decode cX0_orders 5 = .ok (.ireturn, 1) := dk_172 (dk_at dksX0_orders_0 5 rfl rfl)
abbrev cX0_layOrders : ByteArray := prog_1_method_65_code
def yX0_layOrders : MethodName := ⟨RX0, "layOrders", "(I)I"⟩
def dkwX0_layOrders_2 : List UInt8 := [167, 255, 220, 42, 3, 3, 27, 182, 1, 113, 172]
abbrev dktX0_layOrders_2 : List UInt8 := dkwX0_layOrders_2 ++ []
def dkwX0_layOrders_1 : List UInt8 := [54, 6, 21, 6, 8, 162, 0, 15, 25, 5, 21, 6, 3, 79, 132, 6, 1, 167, 255, 241, 132, 4, 1]
abbrev dktX0_layOrders_1 : List UInt8 := dkwX0_layOrders_1 ++ dktX0_layOrders_2
def dkwX0_layOrders_0 : List UInt8 := [42, 180, 0, 81, 77, 44, 190, 62, 3, 54, 4, 21, 4, 29, 162, 0, 36, 44, 21, 4, 50, 58, 5, 3]
abbrev dktX0_layOrders_0 : List UInt8 := dkwX0_layOrders_0 ++ dktX0_layOrders_1
theorem dksX0_layOrders_0 : cX0_layOrders.data.toList.drop 0 = dktX0_layOrders_0 := by decide +kernel
theorem dksX0_layOrders_1 : cX0_layOrders.data.toList.drop 24 = dktX0_layOrders_1 := dk_seg dksX0_layOrders_0 24 rfl rfl
theorem dksX0_layOrders_2 : cX0_layOrders.data.toList.drop 47 = dktX0_layOrders_2 := dk_seg dksX0_layOrders_1 23 rfl rfl
theorem dX0_layOrders_0 : decode cX0_layOrders 0 = .ok (.aload_n 0, 1) := dk_42 (dk_at dksX0_layOrders_0 0 rfl rfl)
theorem dX0_layOrders_1 : decode cX0_layOrders 1 = .ok (.getfield 81, 3) := dk_180 0 81 (dk_at dksX0_layOrders_0 1 rfl rfl)
theorem dX0_layOrders_4 : decode cX0_layOrders 4 = .ok (.astore_n 2, 1) := dk_77 (dk_at dksX0_layOrders_0 4 rfl rfl)
theorem dX0_layOrders_5 : decode cX0_layOrders 5 = .ok (.aload_n 2, 1) := dk_44 (dk_at dksX0_layOrders_0 5 rfl rfl)
theorem dX0_layOrders_6 : decode cX0_layOrders 6 = .ok (.arraylength, 1) := dk_190 (dk_at dksX0_layOrders_0 6 rfl rfl)
theorem dX0_layOrders_7 : decode cX0_layOrders 7 = .ok (.istore_n 3, 1) := dk_62 (dk_at dksX0_layOrders_0 7 rfl rfl)
theorem dX0_layOrders_8 : decode cX0_layOrders 8 = .ok (.iconst 0, 1) := dk_3 (dk_at dksX0_layOrders_0 8 rfl rfl)
theorem dX0_layOrders_9 : decode cX0_layOrders 9 = .ok (.istore 4, 2) := dk_54 4 (dk_at dksX0_layOrders_0 9 rfl rfl)
theorem dX0_layOrders_11 : decode cX0_layOrders 11 = .ok (.iload 4, 2) := dk_21 4 (dk_at dksX0_layOrders_0 11 rfl rfl)
theorem dX0_layOrders_13 : decode cX0_layOrders 13 = .ok (.iload_n 3, 1) := dk_29 (dk_at dksX0_layOrders_0 13 rfl rfl)
theorem dX0_layOrders_14 : decode cX0_layOrders 14 = .ok (.if_icmp .ge 36, 3) := dk_162 0 36 (dk_at dksX0_layOrders_0 14 rfl rfl)
theorem dX0_layOrders_17 : decode cX0_layOrders 17 = .ok (.aload_n 2, 1) := dk_44 (dk_at dksX0_layOrders_0 17 rfl rfl)
theorem dX0_layOrders_18 : decode cX0_layOrders 18 = .ok (.iload 4, 2) := dk_21 4 (dk_at dksX0_layOrders_0 18 rfl rfl)
theorem dX0_layOrders_20 : decode cX0_layOrders 20 = .ok (.aaload, 1) := dk_50 (dk_at dksX0_layOrders_0 20 rfl rfl)
theorem dX0_layOrders_21 : decode cX0_layOrders 21 = .ok (.astore 5, 2) := dk_58 5 (dk_at dksX0_layOrders_0 21 rfl rfl)
theorem dX0_layOrders_23 : decode cX0_layOrders 23 = .ok (.iconst 0, 1) := dk_3 (dk_at dksX0_layOrders_0 23 rfl rfl)
theorem dX0_layOrders_24 : decode cX0_layOrders 24 = .ok (.istore 6, 2) := dk_54 6 (dk_at dksX0_layOrders_1 0 rfl rfl)
theorem dX0_layOrders_26 : decode cX0_layOrders 26 = .ok (.iload 6, 2) := dk_21 6 (dk_at dksX0_layOrders_1 2 rfl rfl)
theorem dX0_layOrders_28 : decode cX0_layOrders 28 = .ok (.iconst 5, 1) := dk_8 (dk_at dksX0_layOrders_1 4 rfl rfl)
theorem dX0_layOrders_29 : decode cX0_layOrders 29 = .ok (.if_icmp .ge 15, 3) := dk_162 0 15 (dk_at dksX0_layOrders_1 5 rfl rfl)
theorem dX0_layOrders_32 : decode cX0_layOrders 32 = .ok (.aload 5, 2) := dk_25 5 (dk_at dksX0_layOrders_1 8 rfl rfl)
theorem dX0_layOrders_34 : decode cX0_layOrders 34 = .ok (.iload 6, 2) := dk_21 6 (dk_at dksX0_layOrders_1 10 rfl rfl)
theorem dX0_layOrders_36 : decode cX0_layOrders 36 = .ok (.iconst 0, 1) := dk_3 (dk_at dksX0_layOrders_1 12 rfl rfl)
theorem dX0_layOrders_37 : decode cX0_layOrders 37 = .ok (.iastore, 1) := dk_79 (dk_at dksX0_layOrders_1 13 rfl rfl)
theorem dX0_layOrders_38 : decode cX0_layOrders 38 = .ok (.iinc 6 1, 3) := dk_132 6 1 (dk_at dksX0_layOrders_1 14 rfl rfl)
theorem dX0_layOrders_41 : decode cX0_layOrders 41 = .ok (.goto (-15), 3) := dk_167 255 241 (dk_at dksX0_layOrders_1 17 rfl rfl)
theorem dX0_layOrders_44 : decode cX0_layOrders 44 = .ok (.iinc 4 1, 3) := dk_132 4 1 (dk_at dksX0_layOrders_1 20 rfl rfl)
theorem dX0_layOrders_47 : decode cX0_layOrders 47 = .ok (.goto (-36), 3) := dk_167 255 220 (dk_at dksX0_layOrders_2 0 rfl rfl)
theorem dX0_layOrders_50 : decode cX0_layOrders 50 = .ok (.aload_n 0, 1) := dk_42 (dk_at dksX0_layOrders_2 3 rfl rfl)
theorem dX0_layOrders_51 : decode cX0_layOrders 51 = .ok (.iconst 0, 1) := dk_3 (dk_at dksX0_layOrders_2 4 rfl rfl)
theorem dX0_layOrders_52 : decode cX0_layOrders 52 = .ok (.iconst 0, 1) := dk_3 (dk_at dksX0_layOrders_2 5 rfl rfl)
theorem dX0_layOrders_53 : decode cX0_layOrders 53 = .ok (.iload_n 1, 1) := dk_27 (dk_at dksX0_layOrders_2 6 rfl rfl)
theorem dX0_layOrders_54 : decode cX0_layOrders 54 = .ok (.invokevirtual 369, 3) := dk_182 1 113 (dk_at dksX0_layOrders_2 7 rfl rfl)
theorem dX0_layOrders_57 : decode cX0_layOrders 57 = .ok (.ireturn, 1) := dk_172 (dk_at dksX0_layOrders_2 10 rfl rfl)
abbrev cX0_giveFrom : ByteArray := prog_1_method_64_code
def yX0_giveFrom : MethodName := ⟨RX0, "giveFrom", "(III)I"⟩
def dkwX0_giveFrom_7 : List UInt8 := [172]
abbrev dktX0_giveFrom_7 : List UInt8 := dkwX0_giveFrom_7 ++ []
def dkwX0_giveFrom_6 : List UInt8 := [27, 4, 96, 28, 4, 21, 5, 120, 128, 29, 182, 1, 113, 96, 54, 4, 132, 5, 1, 167, 255, 204, 21, 4]
abbrev dktX0_giveFrom_6 : List UInt8 := dkwX0_giveFrom_6 ++ dktX0_giveFrom_7
def dkwX0_giveFrom_5 : List UInt8 := [28, 21, 5, 122, 4, 126, 4, 160, 0, 6, 167, 0, 30, 42, 180, 0, 76, 27, 21, 5, 79, 21, 4, 42]
abbrev dktX0_giveFrom_5 : List UInt8 := dkwX0_giveFrom_5 ++ dktX0_giveFrom_6
def dkwX0_giveFrom_4 : List UInt8 := [79, 132, 4, 1, 167, 255, 228, 4, 172, 3, 54, 4, 3, 54, 5, 21, 5, 42, 182, 1, 78, 162, 0, 49]
abbrev dktX0_giveFrom_4 : List UInt8 := dkwX0_giveFrom_4 ++ dktX0_giveFrom_5
def dkwX0_giveFrom_3 : List UInt8 := [21, 4, 27, 162, 0, 28, 42, 180, 0, 81, 21, 4, 50, 42, 180, 0, 76, 21, 4, 46, 92, 46, 4, 96]
abbrev dktX0_giveFrom_3 : List UInt8 := dkwX0_giveFrom_3 ++ dktX0_giveFrom_4
def dkwX0_giveFrom_2 : List UInt8 := [182, 0, 149, 192, 1, 91, 182, 1, 110, 154, 0, 5, 3, 172, 132, 4, 1, 167, 255, 202, 3, 54, 4]
abbrev dktX0_giveFrom_2 : List UInt8 := dkwX0_giveFrom_2 ++ dktX0_giveFrom_3
def dkwX0_giveFrom_1 : List UInt8 := [180, 0, 72, 21, 4, 182, 0, 149, 192, 1, 91, 29, 182, 1, 107, 153, 0, 23, 42, 180, 0, 72, 21, 4]
abbrev dktX0_giveFrom_1 : List UInt8 := dkwX0_giveFrom_1 ++ dktX0_giveFrom_2
def dkwX0_giveFrom_0 : List UInt8 := [27, 42, 182, 1, 78, 160, 0, 99, 3, 54, 4, 21, 4, 42, 180, 0, 72, 182, 0, 132, 162, 0, 48, 42]
abbrev dktX0_giveFrom_0 : List UInt8 := dkwX0_giveFrom_0 ++ dktX0_giveFrom_1
theorem dksX0_giveFrom_0 : cX0_giveFrom.data.toList.drop 0 = dktX0_giveFrom_0 := by decide +kernel
theorem dksX0_giveFrom_1 : cX0_giveFrom.data.toList.drop 24 = dktX0_giveFrom_1 := dk_seg dksX0_giveFrom_0 24 rfl rfl
theorem dksX0_giveFrom_2 : cX0_giveFrom.data.toList.drop 48 = dktX0_giveFrom_2 := dk_seg dksX0_giveFrom_1 24 rfl rfl
theorem dksX0_giveFrom_3 : cX0_giveFrom.data.toList.drop 71 = dktX0_giveFrom_3 := dk_seg dksX0_giveFrom_2 23 rfl rfl
theorem dksX0_giveFrom_4 : cX0_giveFrom.data.toList.drop 95 = dktX0_giveFrom_4 := dk_seg dksX0_giveFrom_3 24 rfl rfl
theorem dksX0_giveFrom_5 : cX0_giveFrom.data.toList.drop 119 = dktX0_giveFrom_5 := dk_seg dksX0_giveFrom_4 24 rfl rfl
theorem dksX0_giveFrom_6 : cX0_giveFrom.data.toList.drop 143 = dktX0_giveFrom_6 := dk_seg dksX0_giveFrom_5 24 rfl rfl
theorem dksX0_giveFrom_7 : cX0_giveFrom.data.toList.drop 167 = dktX0_giveFrom_7 := dk_seg dksX0_giveFrom_6 24 rfl rfl
theorem dX0_giveFrom_0 : decode cX0_giveFrom 0 = .ok (.iload_n 1, 1) := dk_27 (dk_at dksX0_giveFrom_0 0 rfl rfl)
theorem dX0_giveFrom_1 : decode cX0_giveFrom 1 = .ok (.aload_n 0, 1) := dk_42 (dk_at dksX0_giveFrom_0 1 rfl rfl)
theorem dX0_giveFrom_2 : decode cX0_giveFrom 2 = .ok (.invokevirtual 334, 3) := dk_182 1 78 (dk_at dksX0_giveFrom_0 2 rfl rfl)
theorem dX0_giveFrom_5 : decode cX0_giveFrom 5 = .ok (.if_icmp .ne 99, 3) := dk_160 0 99 (dk_at dksX0_giveFrom_0 5 rfl rfl)
theorem dX0_giveFrom_8 : decode cX0_giveFrom 8 = .ok (.iconst 0, 1) := dk_3 (dk_at dksX0_giveFrom_0 8 rfl rfl)
theorem dX0_giveFrom_9 : decode cX0_giveFrom 9 = .ok (.istore 4, 2) := dk_54 4 (dk_at dksX0_giveFrom_0 9 rfl rfl)
theorem dX0_giveFrom_11 : decode cX0_giveFrom 11 = .ok (.iload 4, 2) := dk_21 4 (dk_at dksX0_giveFrom_0 11 rfl rfl)
theorem dX0_giveFrom_13 : decode cX0_giveFrom 13 = .ok (.aload_n 0, 1) := dk_42 (dk_at dksX0_giveFrom_0 13 rfl rfl)
theorem dX0_giveFrom_14 : decode cX0_giveFrom 14 = .ok (.getfield 72, 3) := dk_180 0 72 (dk_at dksX0_giveFrom_0 14 rfl rfl)
theorem dX0_giveFrom_17 : decode cX0_giveFrom 17 = .ok (.invokevirtual 132, 3) := dk_182 0 132 (dk_at dksX0_giveFrom_0 17 rfl rfl)
theorem dX0_giveFrom_20 : decode cX0_giveFrom 20 = .ok (.if_icmp .ge 48, 3) := dk_162 0 48 (dk_at dksX0_giveFrom_0 20 rfl rfl)
theorem dX0_giveFrom_23 : decode cX0_giveFrom 23 = .ok (.aload_n 0, 1) := dk_42 (dk_at dksX0_giveFrom_0 23 rfl rfl)
theorem dX0_giveFrom_24 : decode cX0_giveFrom 24 = .ok (.getfield 72, 3) := dk_180 0 72 (dk_at dksX0_giveFrom_1 0 rfl rfl)
theorem dX0_giveFrom_27 : decode cX0_giveFrom 27 = .ok (.iload 4, 2) := dk_21 4 (dk_at dksX0_giveFrom_1 3 rfl rfl)
theorem dX0_giveFrom_29 : decode cX0_giveFrom 29 = .ok (.invokevirtual 149, 3) := dk_182 0 149 (dk_at dksX0_giveFrom_1 5 rfl rfl)
theorem dX0_giveFrom_32 : decode cX0_giveFrom 32 = .ok (.checkcast 347, 3) := dk_192 1 91 (dk_at dksX0_giveFrom_1 8 rfl rfl)
theorem dX0_giveFrom_35 : decode cX0_giveFrom 35 = .ok (.iload_n 3, 1) := dk_29 (dk_at dksX0_giveFrom_1 11 rfl rfl)
theorem dX0_giveFrom_36 : decode cX0_giveFrom 36 = .ok (.invokevirtual 363, 3) := dk_182 1 107 (dk_at dksX0_giveFrom_1 12 rfl rfl)
theorem dX0_giveFrom_39 : decode cX0_giveFrom 39 = .ok (.ifCond .eq 23, 3) := dk_153 0 23 (dk_at dksX0_giveFrom_1 15 rfl rfl)
theorem dX0_giveFrom_42 : decode cX0_giveFrom 42 = .ok (.aload_n 0, 1) := dk_42 (dk_at dksX0_giveFrom_1 18 rfl rfl)
theorem dX0_giveFrom_43 : decode cX0_giveFrom 43 = .ok (.getfield 72, 3) := dk_180 0 72 (dk_at dksX0_giveFrom_1 19 rfl rfl)
theorem dX0_giveFrom_46 : decode cX0_giveFrom 46 = .ok (.iload 4, 2) := dk_21 4 (dk_at dksX0_giveFrom_1 22 rfl rfl)
theorem dX0_giveFrom_48 : decode cX0_giveFrom 48 = .ok (.invokevirtual 149, 3) := dk_182 0 149 (dk_at dksX0_giveFrom_2 0 rfl rfl)
theorem dX0_giveFrom_51 : decode cX0_giveFrom 51 = .ok (.checkcast 347, 3) := dk_192 1 91 (dk_at dksX0_giveFrom_2 3 rfl rfl)
theorem dX0_giveFrom_54 : decode cX0_giveFrom 54 = .ok (.invokevirtual 366, 3) := dk_182 1 110 (dk_at dksX0_giveFrom_2 6 rfl rfl)
theorem dX0_giveFrom_57 : decode cX0_giveFrom 57 = .ok (.ifCond .ne 5, 3) := dk_154 0 5 (dk_at dksX0_giveFrom_2 9 rfl rfl)
theorem dX0_giveFrom_60 : decode cX0_giveFrom 60 = .ok (.iconst 0, 1) := dk_3 (dk_at dksX0_giveFrom_2 12 rfl rfl)
theorem dX0_giveFrom_61 : decode cX0_giveFrom 61 = .ok (.ireturn, 1) := dk_172 (dk_at dksX0_giveFrom_2 13 rfl rfl)
theorem dX0_giveFrom_62 : decode cX0_giveFrom 62 = .ok (.iinc 4 1, 3) := dk_132 4 1 (dk_at dksX0_giveFrom_2 14 rfl rfl)
theorem dX0_giveFrom_65 : decode cX0_giveFrom 65 = .ok (.goto (-54), 3) := dk_167 255 202 (dk_at dksX0_giveFrom_2 17 rfl rfl)
theorem dX0_giveFrom_68 : decode cX0_giveFrom 68 = .ok (.iconst 0, 1) := dk_3 (dk_at dksX0_giveFrom_2 20 rfl rfl)
theorem dX0_giveFrom_69 : decode cX0_giveFrom 69 = .ok (.istore 4, 2) := dk_54 4 (dk_at dksX0_giveFrom_2 21 rfl rfl)
theorem dX0_giveFrom_71 : decode cX0_giveFrom 71 = .ok (.iload 4, 2) := dk_21 4 (dk_at dksX0_giveFrom_3 0 rfl rfl)
theorem dX0_giveFrom_73 : decode cX0_giveFrom 73 = .ok (.iload_n 1, 1) := dk_27 (dk_at dksX0_giveFrom_3 2 rfl rfl)
theorem dX0_giveFrom_74 : decode cX0_giveFrom 74 = .ok (.if_icmp .ge 28, 3) := dk_162 0 28 (dk_at dksX0_giveFrom_3 3 rfl rfl)
theorem dX0_giveFrom_77 : decode cX0_giveFrom 77 = .ok (.aload_n 0, 1) := dk_42 (dk_at dksX0_giveFrom_3 6 rfl rfl)
theorem dX0_giveFrom_78 : decode cX0_giveFrom 78 = .ok (.getfield 81, 3) := dk_180 0 81 (dk_at dksX0_giveFrom_3 7 rfl rfl)
theorem dX0_giveFrom_81 : decode cX0_giveFrom 81 = .ok (.iload 4, 2) := dk_21 4 (dk_at dksX0_giveFrom_3 10 rfl rfl)
theorem dX0_giveFrom_83 : decode cX0_giveFrom 83 = .ok (.aaload, 1) := dk_50 (dk_at dksX0_giveFrom_3 12 rfl rfl)
theorem dX0_giveFrom_84 : decode cX0_giveFrom 84 = .ok (.aload_n 0, 1) := dk_42 (dk_at dksX0_giveFrom_3 13 rfl rfl)
theorem dX0_giveFrom_85 : decode cX0_giveFrom 85 = .ok (.getfield 76, 3) := dk_180 0 76 (dk_at dksX0_giveFrom_3 14 rfl rfl)
theorem dX0_giveFrom_88 : decode cX0_giveFrom 88 = .ok (.iload 4, 2) := dk_21 4 (dk_at dksX0_giveFrom_3 17 rfl rfl)
theorem dX0_giveFrom_90 : decode cX0_giveFrom 90 = .ok (.iaload, 1) := dk_46 (dk_at dksX0_giveFrom_3 19 rfl rfl)
theorem dX0_giveFrom_91 : decode cX0_giveFrom 91 = .ok (.dup2, 1) := dk_92 (dk_at dksX0_giveFrom_3 20 rfl rfl)
theorem dX0_giveFrom_92 : decode cX0_giveFrom 92 = .ok (.iaload, 1) := dk_46 (dk_at dksX0_giveFrom_3 21 rfl rfl)
theorem dX0_giveFrom_93 : decode cX0_giveFrom 93 = .ok (.iconst 1, 1) := dk_4 (dk_at dksX0_giveFrom_3 22 rfl rfl)
theorem dX0_giveFrom_94 : decode cX0_giveFrom 94 = .ok (.iadd, 1) := dk_96 (dk_at dksX0_giveFrom_3 23 rfl rfl)
theorem dX0_giveFrom_95 : decode cX0_giveFrom 95 = .ok (.iastore, 1) := dk_79 (dk_at dksX0_giveFrom_4 0 rfl rfl)
theorem dX0_giveFrom_96 : decode cX0_giveFrom 96 = .ok (.iinc 4 1, 3) := dk_132 4 1 (dk_at dksX0_giveFrom_4 1 rfl rfl)
theorem dX0_giveFrom_99 : decode cX0_giveFrom 99 = .ok (.goto (-28), 3) := dk_167 255 228 (dk_at dksX0_giveFrom_4 4 rfl rfl)
theorem dX0_giveFrom_102 : decode cX0_giveFrom 102 = .ok (.iconst 1, 1) := dk_4 (dk_at dksX0_giveFrom_4 7 rfl rfl)
theorem dX0_giveFrom_103 : decode cX0_giveFrom 103 = .ok (.ireturn, 1) := dk_172 (dk_at dksX0_giveFrom_4 8 rfl rfl)
theorem dX0_giveFrom_104 : decode cX0_giveFrom 104 = .ok (.iconst 0, 1) := dk_3 (dk_at dksX0_giveFrom_4 9 rfl rfl)
theorem dX0_giveFrom_105 : decode cX0_giveFrom 105 = .ok (.istore 4, 2) := dk_54 4 (dk_at dksX0_giveFrom_4 10 rfl rfl)
theorem dX0_giveFrom_107 : decode cX0_giveFrom 107 = .ok (.iconst 0, 1) := dk_3 (dk_at dksX0_giveFrom_4 12 rfl rfl)
theorem dX0_giveFrom_108 : decode cX0_giveFrom 108 = .ok (.istore 5, 2) := dk_54 5 (dk_at dksX0_giveFrom_4 13 rfl rfl)
theorem dX0_giveFrom_110 : decode cX0_giveFrom 110 = .ok (.iload 5, 2) := dk_21 5 (dk_at dksX0_giveFrom_4 15 rfl rfl)
theorem dX0_giveFrom_112 : decode cX0_giveFrom 112 = .ok (.aload_n 0, 1) := dk_42 (dk_at dksX0_giveFrom_4 17 rfl rfl)
theorem dX0_giveFrom_113 : decode cX0_giveFrom 113 = .ok (.invokevirtual 334, 3) := dk_182 1 78 (dk_at dksX0_giveFrom_4 18 rfl rfl)
theorem dX0_giveFrom_116 : decode cX0_giveFrom 116 = .ok (.if_icmp .ge 49, 3) := dk_162 0 49 (dk_at dksX0_giveFrom_4 21 rfl rfl)
theorem dX0_giveFrom_119 : decode cX0_giveFrom 119 = .ok (.iload_n 2, 1) := dk_28 (dk_at dksX0_giveFrom_5 0 rfl rfl)
theorem dX0_giveFrom_120 : decode cX0_giveFrom 120 = .ok (.iload 5, 2) := dk_21 5 (dk_at dksX0_giveFrom_5 1 rfl rfl)
theorem dX0_giveFrom_122 : decode cX0_giveFrom 122 = .ok (.ishr, 1) := dk_122 (dk_at dksX0_giveFrom_5 3 rfl rfl)
theorem dX0_giveFrom_123 : decode cX0_giveFrom 123 = .ok (.iconst 1, 1) := dk_4 (dk_at dksX0_giveFrom_5 4 rfl rfl)
theorem dX0_giveFrom_124 : decode cX0_giveFrom 124 = .ok (.iand, 1) := dk_126 (dk_at dksX0_giveFrom_5 5 rfl rfl)
theorem dX0_giveFrom_125 : decode cX0_giveFrom 125 = .ok (.iconst 1, 1) := dk_4 (dk_at dksX0_giveFrom_5 6 rfl rfl)
theorem dX0_giveFrom_126 : decode cX0_giveFrom 126 = .ok (.if_icmp .ne 6, 3) := dk_160 0 6 (dk_at dksX0_giveFrom_5 7 rfl rfl)
theorem dX0_giveFrom_129 : decode cX0_giveFrom 129 = .ok (.goto 30, 3) := dk_167 0 30 (dk_at dksX0_giveFrom_5 10 rfl rfl)
theorem dX0_giveFrom_132 : decode cX0_giveFrom 132 = .ok (.aload_n 0, 1) := dk_42 (dk_at dksX0_giveFrom_5 13 rfl rfl)
theorem dX0_giveFrom_133 : decode cX0_giveFrom 133 = .ok (.getfield 76, 3) := dk_180 0 76 (dk_at dksX0_giveFrom_5 14 rfl rfl)
theorem dX0_giveFrom_136 : decode cX0_giveFrom 136 = .ok (.iload_n 1, 1) := dk_27 (dk_at dksX0_giveFrom_5 17 rfl rfl)
theorem dX0_giveFrom_137 : decode cX0_giveFrom 137 = .ok (.iload 5, 2) := dk_21 5 (dk_at dksX0_giveFrom_5 18 rfl rfl)
theorem dX0_giveFrom_139 : decode cX0_giveFrom 139 = .ok (.iastore, 1) := dk_79 (dk_at dksX0_giveFrom_5 20 rfl rfl)
theorem dX0_giveFrom_140 : decode cX0_giveFrom 140 = .ok (.iload 4, 2) := dk_21 4 (dk_at dksX0_giveFrom_5 21 rfl rfl)
theorem dX0_giveFrom_142 : decode cX0_giveFrom 142 = .ok (.aload_n 0, 1) := dk_42 (dk_at dksX0_giveFrom_5 23 rfl rfl)
theorem dX0_giveFrom_143 : decode cX0_giveFrom 143 = .ok (.iload_n 1, 1) := dk_27 (dk_at dksX0_giveFrom_6 0 rfl rfl)
theorem dX0_giveFrom_144 : decode cX0_giveFrom 144 = .ok (.iconst 1, 1) := dk_4 (dk_at dksX0_giveFrom_6 1 rfl rfl)
theorem dX0_giveFrom_145 : decode cX0_giveFrom 145 = .ok (.iadd, 1) := dk_96 (dk_at dksX0_giveFrom_6 2 rfl rfl)
theorem dX0_giveFrom_146 : decode cX0_giveFrom 146 = .ok (.iload_n 2, 1) := dk_28 (dk_at dksX0_giveFrom_6 3 rfl rfl)
theorem dX0_giveFrom_147 : decode cX0_giveFrom 147 = .ok (.iconst 1, 1) := dk_4 (dk_at dksX0_giveFrom_6 4 rfl rfl)
theorem dX0_giveFrom_148 : decode cX0_giveFrom 148 = .ok (.iload 5, 2) := dk_21 5 (dk_at dksX0_giveFrom_6 5 rfl rfl)
theorem dX0_giveFrom_150 : decode cX0_giveFrom 150 = .ok (.ishl, 1) := dk_120 (dk_at dksX0_giveFrom_6 7 rfl rfl)
theorem dX0_giveFrom_151 : decode cX0_giveFrom 151 = .ok (.ior, 1) := dk_128 (dk_at dksX0_giveFrom_6 8 rfl rfl)
theorem dX0_giveFrom_152 : decode cX0_giveFrom 152 = .ok (.iload_n 3, 1) := dk_29 (dk_at dksX0_giveFrom_6 9 rfl rfl)
theorem dX0_giveFrom_153 : decode cX0_giveFrom 153 = .ok (.invokevirtual 369, 3) := dk_182 1 113 (dk_at dksX0_giveFrom_6 10 rfl rfl)
theorem dX0_giveFrom_156 : decode cX0_giveFrom 156 = .ok (.iadd, 1) := dk_96 (dk_at dksX0_giveFrom_6 13 rfl rfl)
theorem dX0_giveFrom_157 : decode cX0_giveFrom 157 = .ok (.istore 4, 2) := dk_54 4 (dk_at dksX0_giveFrom_6 14 rfl rfl)
theorem dX0_giveFrom_159 : decode cX0_giveFrom 159 = .ok (.iinc 5 1, 3) := dk_132 5 1 (dk_at dksX0_giveFrom_6 16 rfl rfl)
theorem dX0_giveFrom_162 : decode cX0_giveFrom 162 = .ok (.goto (-52), 3) := dk_167 255 204 (dk_at dksX0_giveFrom_6 19 rfl rfl)
theorem dX0_giveFrom_165 : decode cX0_giveFrom 165 = .ok (.iload 4, 2) := dk_21 4 (dk_at dksX0_giveFrom_6 22 rfl rfl)
theorem dX0_giveFrom_167 : decode cX0_giveFrom 167 = .ok (.ireturn, 1) := dk_172 (dk_at dksX0_giveFrom_7 0 rfl rfl)
abbrev cX0_bookOf : ByteArray := prog_1_method_58_code
def yX0_bookOf : MethodName := ⟨RX0, "bookOf", "(I)I"⟩
def dkwX0_bookOf_0 : List UInt8 := [42, 180, 0, 20, 180, 1, 81, 42, 180, 0, 76, 27, 46, 46, 172]
abbrev dktX0_bookOf_0 : List UInt8 := dkwX0_bookOf_0 ++ []
theorem dksX0_bookOf_0 : cX0_bookOf.data.toList.drop 0 = dktX0_bookOf_0 := by decide +kernel
theorem dX0_bookOf_0 : decode cX0_bookOf 0 = .ok (.aload_n 0, 1) := dk_42 (dk_at dksX0_bookOf_0 0 rfl rfl)
theorem dX0_bookOf_1 : decode cX0_bookOf 1 = .ok (.getfield 20, 3) := dk_180 0 20 (dk_at dksX0_bookOf_0 1 rfl rfl)
theorem dX0_bookOf_4 : decode cX0_bookOf 4 = .ok (.getfield 337, 3) := dk_180 1 81 (dk_at dksX0_bookOf_0 4 rfl rfl)
theorem dX0_bookOf_7 : decode cX0_bookOf 7 = .ok (.aload_n 0, 1) := dk_42 (dk_at dksX0_bookOf_0 7 rfl rfl)
theorem dX0_bookOf_8 : decode cX0_bookOf 8 = .ok (.getfield 76, 3) := dk_180 0 76 (dk_at dksX0_bookOf_0 8 rfl rfl)
theorem dX0_bookOf_11 : decode cX0_bookOf 11 = .ok (.iload_n 1, 1) := dk_27 (dk_at dksX0_bookOf_0 11 rfl rfl)
theorem dX0_bookOf_12 : decode cX0_bookOf 12 = .ok (.iaload, 1) := dk_46 (dk_at dksX0_bookOf_0 12 rfl rfl)
theorem dX0_bookOf_13 : decode cX0_bookOf 13 = .ok (.iaload, 1) := dk_46 (dk_at dksX0_bookOf_0 13 rfl rfl)
theorem dX0_bookOf_14 : decode cX0_bookOf 14 = .ok (.ireturn, 1) := dk_172 (dk_at dksX0_bookOf_0 14 rfl rfl)
abbrev cX0_sure : ByteArray := prog_1_method_67_code
def yX0_sure : MethodName := ⟨RX0, "sure", "(II)I"⟩
def dkwX0_sure_2 : List UInt8 := [21, 4, 54, 4, 132, 5, 1, 167, 255, 225, 29, 154, 0, 7, 2, 167, 0, 5, 21, 4, 172]
abbrev dktX0_sure_2 : List UInt8 := dkwX0_sure_2 ++ []
def dkwX0_sure_1 : List UInt8 := [21, 5, 8, 162, 0, 31, 42, 180, 0, 81, 27, 50, 21, 5, 46, 29, 160, 0, 8, 21, 5, 167, 0, 5]
abbrev dktX0_sure_1 : List UInt8 := dkwX0_sure_1 ++ dktX0_sure_2
def dkwX0_sure_0 : List UInt8 := [42, 27, 182, 1, 88, 154, 0, 5, 2, 172, 42, 28, 182, 1, 117, 62, 16, 254, 54, 4, 3, 54, 5]
abbrev dktX0_sure_0 : List UInt8 := dkwX0_sure_0 ++ dktX0_sure_1
theorem dksX0_sure_0 : cX0_sure.data.toList.drop 0 = dktX0_sure_0 := by decide +kernel
theorem dksX0_sure_1 : cX0_sure.data.toList.drop 23 = dktX0_sure_1 := dk_seg dksX0_sure_0 23 rfl rfl
theorem dksX0_sure_2 : cX0_sure.data.toList.drop 47 = dktX0_sure_2 := dk_seg dksX0_sure_1 24 rfl rfl
theorem dX0_sure_0 : decode cX0_sure 0 = .ok (.aload_n 0, 1) := dk_42 (dk_at dksX0_sure_0 0 rfl rfl)
theorem dX0_sure_1 : decode cX0_sure 1 = .ok (.iload_n 1, 1) := dk_27 (dk_at dksX0_sure_0 1 rfl rfl)
theorem dX0_sure_2 : decode cX0_sure 2 = .ok (.invokevirtual 344, 3) := dk_182 1 88 (dk_at dksX0_sure_0 2 rfl rfl)
theorem dX0_sure_5 : decode cX0_sure 5 = .ok (.ifCond .ne 5, 3) := dk_154 0 5 (dk_at dksX0_sure_0 5 rfl rfl)
theorem dX0_sure_8 : decode cX0_sure 8 = .ok (.iconst (-1), 1) := dk_2 (dk_at dksX0_sure_0 8 rfl rfl)
theorem dX0_sure_9 : decode cX0_sure 9 = .ok (.ireturn, 1) := dk_172 (dk_at dksX0_sure_0 9 rfl rfl)
theorem dX0_sure_10 : decode cX0_sure 10 = .ok (.aload_n 0, 1) := dk_42 (dk_at dksX0_sure_0 10 rfl rfl)
theorem dX0_sure_11 : decode cX0_sure 11 = .ok (.iload_n 2, 1) := dk_28 (dk_at dksX0_sure_0 11 rfl rfl)
theorem dX0_sure_12 : decode cX0_sure 12 = .ok (.invokevirtual 373, 3) := dk_182 1 117 (dk_at dksX0_sure_0 12 rfl rfl)
theorem dX0_sure_15 : decode cX0_sure 15 = .ok (.istore_n 3, 1) := dk_62 (dk_at dksX0_sure_0 15 rfl rfl)
theorem dX0_sure_16 : decode cX0_sure 16 = .ok (.bipush (-2), 2) := dk_16 254 (dk_at dksX0_sure_0 16 rfl rfl)
theorem dX0_sure_18 : decode cX0_sure 18 = .ok (.istore 4, 2) := dk_54 4 (dk_at dksX0_sure_0 18 rfl rfl)
theorem dX0_sure_20 : decode cX0_sure 20 = .ok (.iconst 0, 1) := dk_3 (dk_at dksX0_sure_0 20 rfl rfl)
theorem dX0_sure_21 : decode cX0_sure 21 = .ok (.istore 5, 2) := dk_54 5 (dk_at dksX0_sure_0 21 rfl rfl)
theorem dX0_sure_23 : decode cX0_sure 23 = .ok (.iload 5, 2) := dk_21 5 (dk_at dksX0_sure_1 0 rfl rfl)
theorem dX0_sure_25 : decode cX0_sure 25 = .ok (.iconst 5, 1) := dk_8 (dk_at dksX0_sure_1 2 rfl rfl)
theorem dX0_sure_26 : decode cX0_sure 26 = .ok (.if_icmp .ge 31, 3) := dk_162 0 31 (dk_at dksX0_sure_1 3 rfl rfl)
theorem dX0_sure_29 : decode cX0_sure 29 = .ok (.aload_n 0, 1) := dk_42 (dk_at dksX0_sure_1 6 rfl rfl)
theorem dX0_sure_30 : decode cX0_sure 30 = .ok (.getfield 81, 3) := dk_180 0 81 (dk_at dksX0_sure_1 7 rfl rfl)
theorem dX0_sure_33 : decode cX0_sure 33 = .ok (.iload_n 1, 1) := dk_27 (dk_at dksX0_sure_1 10 rfl rfl)
theorem dX0_sure_34 : decode cX0_sure 34 = .ok (.aaload, 1) := dk_50 (dk_at dksX0_sure_1 11 rfl rfl)
theorem dX0_sure_35 : decode cX0_sure 35 = .ok (.iload 5, 2) := dk_21 5 (dk_at dksX0_sure_1 12 rfl rfl)
theorem dX0_sure_37 : decode cX0_sure 37 = .ok (.iaload, 1) := dk_46 (dk_at dksX0_sure_1 14 rfl rfl)
theorem dX0_sure_38 : decode cX0_sure 38 = .ok (.iload_n 3, 1) := dk_29 (dk_at dksX0_sure_1 15 rfl rfl)
theorem dX0_sure_39 : decode cX0_sure 39 = .ok (.if_icmp .ne 8, 3) := dk_160 0 8 (dk_at dksX0_sure_1 16 rfl rfl)
theorem dX0_sure_42 : decode cX0_sure 42 = .ok (.iload 5, 2) := dk_21 5 (dk_at dksX0_sure_1 19 rfl rfl)
theorem dX0_sure_44 : decode cX0_sure 44 = .ok (.goto 5, 3) := dk_167 0 5 (dk_at dksX0_sure_1 21 rfl rfl)
theorem dX0_sure_47 : decode cX0_sure 47 = .ok (.iload 4, 2) := dk_21 4 (dk_at dksX0_sure_2 0 rfl rfl)
theorem dX0_sure_49 : decode cX0_sure 49 = .ok (.istore 4, 2) := dk_54 4 (dk_at dksX0_sure_2 2 rfl rfl)
theorem dX0_sure_51 : decode cX0_sure 51 = .ok (.iinc 5 1, 3) := dk_132 5 1 (dk_at dksX0_sure_2 4 rfl rfl)
theorem dX0_sure_54 : decode cX0_sure 54 = .ok (.goto (-31), 3) := dk_167 255 225 (dk_at dksX0_sure_2 7 rfl rfl)
theorem dX0_sure_57 : decode cX0_sure 57 = .ok (.iload_n 3, 1) := dk_29 (dk_at dksX0_sure_2 10 rfl rfl)
theorem dX0_sure_58 : decode cX0_sure 58 = .ok (.ifCond .ne 7, 3) := dk_154 0 7 (dk_at dksX0_sure_2 11 rfl rfl)
theorem dX0_sure_61 : decode cX0_sure 61 = .ok (.iconst (-1), 1) := dk_2 (dk_at dksX0_sure_2 14 rfl rfl)
theorem dX0_sure_62 : decode cX0_sure 62 = .ok (.goto 5, 3) := dk_167 0 5 (dk_at dksX0_sure_2 15 rfl rfl)
theorem dX0_sure_65 : decode cX0_sure 65 = .ok (.iload 4, 2) := dk_21 4 (dk_at dksX0_sure_2 18 rfl rfl)
theorem dX0_sure_67 : decode cX0_sure 67 = .ok (.ireturn, 1) := dk_172 (dk_at dksX0_sure_2 20 rfl rfl)
abbrev cX0_ask : ByteArray := prog_1_method_68_code
def yX0_ask : MethodName := ⟨RX0, "ask", "(II)I"⟩
def dkwX0_ask_5 : List UInt8 := [156, 0, 7, 2, 167, 0, 14, 27, 154, 0, 8, 21, 4, 167, 0, 5, 21, 5, 172]
abbrev dktX0_ask_5 : List UInt8 := dkwX0_ask_5 ++ []
def dkwX0_ask_4 : List UInt8 := [161, 0, 6, 167, 0, 11, 21, 6, 54, 4, 21, 7, 54, 5, 132, 6, 1, 167, 255, 177, 21, 4]
abbrev dktX0_ask_4 : List UInt8 := dkwX0_ask_4 ++ dktX0_ask_5
def dkwX0_ask_3 : List UInt8 := [46, 54, 11, 21, 7, 21, 11, 184, 0, 211, 54, 7, 132, 10, 1, 167, 255, 230, 21, 7, 21, 5]
abbrev dktX0_ask_3 : List UInt8 := dkwX0_ask_3 ++ dktX0_ask_4
def dkwX0_ask_2 : List UInt8 := [21, 6, 50, 58, 8, 25, 8, 190, 54, 9, 3, 54, 10, 21, 10, 21, 9, 162, 0, 25, 25, 8, 21, 10]
abbrev dktX0_ask_2 : List UInt8 := dkwX0_ask_2 ++ dktX0_ask_3
def dkwX0_ask_1 : List UInt8 := [154, 0, 5, 2, 172, 3, 54, 6, 21, 6, 42, 182, 1, 78, 162, 0, 76, 3, 54, 7, 42, 180, 0, 81]
abbrev dktX0_ask_1 : List UInt8 := dkwX0_ask_1 ++ dktX0_ask_2
def dkwX0_ask_0 : List UInt8 := [42, 28, 182, 1, 117, 62, 2, 54, 4, 29, 4, 96, 54, 5, 27, 3, 4, 184, 0, 138, 153, 0, 7, 29]
abbrev dktX0_ask_0 : List UInt8 := dkwX0_ask_0 ++ dktX0_ask_1
theorem dksX0_ask_0 : cX0_ask.data.toList.drop 0 = dktX0_ask_0 := by decide +kernel
theorem dksX0_ask_1 : cX0_ask.data.toList.drop 24 = dktX0_ask_1 := dk_seg dksX0_ask_0 24 rfl rfl
theorem dksX0_ask_2 : cX0_ask.data.toList.drop 48 = dktX0_ask_2 := dk_seg dksX0_ask_1 24 rfl rfl
theorem dksX0_ask_3 : cX0_ask.data.toList.drop 72 = dktX0_ask_3 := dk_seg dksX0_ask_2 24 rfl rfl
theorem dksX0_ask_4 : cX0_ask.data.toList.drop 94 = dktX0_ask_4 := dk_seg dksX0_ask_3 22 rfl rfl
theorem dksX0_ask_5 : cX0_ask.data.toList.drop 116 = dktX0_ask_5 := dk_seg dksX0_ask_4 22 rfl rfl
theorem dX0_ask_0 : decode cX0_ask 0 = .ok (.aload_n 0, 1) := dk_42 (dk_at dksX0_ask_0 0 rfl rfl)
theorem dX0_ask_1 : decode cX0_ask 1 = .ok (.iload_n 2, 1) := dk_28 (dk_at dksX0_ask_0 1 rfl rfl)
theorem dX0_ask_2 : decode cX0_ask 2 = .ok (.invokevirtual 373, 3) := dk_182 1 117 (dk_at dksX0_ask_0 2 rfl rfl)
theorem dX0_ask_5 : decode cX0_ask 5 = .ok (.istore_n 3, 1) := dk_62 (dk_at dksX0_ask_0 5 rfl rfl)
theorem dX0_ask_6 : decode cX0_ask 6 = .ok (.iconst (-1), 1) := dk_2 (dk_at dksX0_ask_0 6 rfl rfl)
theorem dX0_ask_7 : decode cX0_ask 7 = .ok (.istore 4, 2) := dk_54 4 (dk_at dksX0_ask_0 7 rfl rfl)
theorem dX0_ask_9 : decode cX0_ask 9 = .ok (.iload_n 3, 1) := dk_29 (dk_at dksX0_ask_0 9 rfl rfl)
theorem dX0_ask_10 : decode cX0_ask 10 = .ok (.iconst 1, 1) := dk_4 (dk_at dksX0_ask_0 10 rfl rfl)
theorem dX0_ask_11 : decode cX0_ask 11 = .ok (.iadd, 1) := dk_96 (dk_at dksX0_ask_0 11 rfl rfl)
theorem dX0_ask_12 : decode cX0_ask 12 = .ok (.istore 5, 2) := dk_54 5 (dk_at dksX0_ask_0 12 rfl rfl)
theorem dX0_ask_14 : decode cX0_ask 14 = .ok (.iload_n 1, 1) := dk_27 (dk_at dksX0_ask_0 14 rfl rfl)
theorem dX0_ask_15 : decode cX0_ask 15 = .ok (.iconst 0, 1) := dk_3 (dk_at dksX0_ask_0 15 rfl rfl)
theorem dX0_ask_16 : decode cX0_ask 16 = .ok (.iconst 1, 1) := dk_4 (dk_at dksX0_ask_0 16 rfl rfl)
theorem dX0_ask_17 : decode cX0_ask 17 = .ok (.invokestatic 138, 3) := dk_184 0 138 (dk_at dksX0_ask_0 17 rfl rfl)
theorem dX0_ask_20 : decode cX0_ask 20 = .ok (.ifCond .eq 7, 3) := dk_153 0 7 (dk_at dksX0_ask_0 20 rfl rfl)
theorem dX0_ask_23 : decode cX0_ask 23 = .ok (.iload_n 3, 1) := dk_29 (dk_at dksX0_ask_0 23 rfl rfl)
theorem dX0_ask_24 : decode cX0_ask 24 = .ok (.ifCond .ne 5, 3) := dk_154 0 5 (dk_at dksX0_ask_1 0 rfl rfl)
theorem dX0_ask_27 : decode cX0_ask 27 = .ok (.iconst (-1), 1) := dk_2 (dk_at dksX0_ask_1 3 rfl rfl)
theorem dX0_ask_28 : decode cX0_ask 28 = .ok (.ireturn, 1) := dk_172 (dk_at dksX0_ask_1 4 rfl rfl)
theorem dX0_ask_29 : decode cX0_ask 29 = .ok (.iconst 0, 1) := dk_3 (dk_at dksX0_ask_1 5 rfl rfl)
theorem dX0_ask_30 : decode cX0_ask 30 = .ok (.istore 6, 2) := dk_54 6 (dk_at dksX0_ask_1 6 rfl rfl)
theorem dX0_ask_32 : decode cX0_ask 32 = .ok (.iload 6, 2) := dk_21 6 (dk_at dksX0_ask_1 8 rfl rfl)
theorem dX0_ask_34 : decode cX0_ask 34 = .ok (.aload_n 0, 1) := dk_42 (dk_at dksX0_ask_1 10 rfl rfl)
theorem dX0_ask_35 : decode cX0_ask 35 = .ok (.invokevirtual 334, 3) := dk_182 1 78 (dk_at dksX0_ask_1 11 rfl rfl)
theorem dX0_ask_38 : decode cX0_ask 38 = .ok (.if_icmp .ge 76, 3) := dk_162 0 76 (dk_at dksX0_ask_1 14 rfl rfl)
theorem dX0_ask_41 : decode cX0_ask 41 = .ok (.iconst 0, 1) := dk_3 (dk_at dksX0_ask_1 17 rfl rfl)
theorem dX0_ask_42 : decode cX0_ask 42 = .ok (.istore 7, 2) := dk_54 7 (dk_at dksX0_ask_1 18 rfl rfl)
theorem dX0_ask_44 : decode cX0_ask 44 = .ok (.aload_n 0, 1) := dk_42 (dk_at dksX0_ask_1 20 rfl rfl)
theorem dX0_ask_45 : decode cX0_ask 45 = .ok (.getfield 81, 3) := dk_180 0 81 (dk_at dksX0_ask_1 21 rfl rfl)
theorem dX0_ask_48 : decode cX0_ask 48 = .ok (.iload 6, 2) := dk_21 6 (dk_at dksX0_ask_2 0 rfl rfl)
theorem dX0_ask_50 : decode cX0_ask 50 = .ok (.aaload, 1) := dk_50 (dk_at dksX0_ask_2 2 rfl rfl)
theorem dX0_ask_51 : decode cX0_ask 51 = .ok (.astore 8, 2) := dk_58 8 (dk_at dksX0_ask_2 3 rfl rfl)
theorem dX0_ask_53 : decode cX0_ask 53 = .ok (.aload 8, 2) := dk_25 8 (dk_at dksX0_ask_2 5 rfl rfl)
theorem dX0_ask_55 : decode cX0_ask 55 = .ok (.arraylength, 1) := dk_190 (dk_at dksX0_ask_2 7 rfl rfl)
theorem dX0_ask_56 : decode cX0_ask 56 = .ok (.istore 9, 2) := dk_54 9 (dk_at dksX0_ask_2 8 rfl rfl)
theorem dX0_ask_58 : decode cX0_ask 58 = .ok (.iconst 0, 1) := dk_3 (dk_at dksX0_ask_2 10 rfl rfl)
theorem dX0_ask_59 : decode cX0_ask 59 = .ok (.istore 10, 2) := dk_54 10 (dk_at dksX0_ask_2 11 rfl rfl)
theorem dX0_ask_61 : decode cX0_ask 61 = .ok (.iload 10, 2) := dk_21 10 (dk_at dksX0_ask_2 13 rfl rfl)
theorem dX0_ask_63 : decode cX0_ask 63 = .ok (.iload 9, 2) := dk_21 9 (dk_at dksX0_ask_2 15 rfl rfl)
theorem dX0_ask_65 : decode cX0_ask 65 = .ok (.if_icmp .ge 25, 3) := dk_162 0 25 (dk_at dksX0_ask_2 17 rfl rfl)
theorem dX0_ask_68 : decode cX0_ask 68 = .ok (.aload 8, 2) := dk_25 8 (dk_at dksX0_ask_2 20 rfl rfl)
theorem dX0_ask_70 : decode cX0_ask 70 = .ok (.iload 10, 2) := dk_21 10 (dk_at dksX0_ask_2 22 rfl rfl)
theorem dX0_ask_72 : decode cX0_ask 72 = .ok (.iaload, 1) := dk_46 (dk_at dksX0_ask_3 0 rfl rfl)
theorem dX0_ask_73 : decode cX0_ask 73 = .ok (.istore 11, 2) := dk_54 11 (dk_at dksX0_ask_3 1 rfl rfl)
theorem dX0_ask_75 : decode cX0_ask 75 = .ok (.iload 7, 2) := dk_21 7 (dk_at dksX0_ask_3 3 rfl rfl)
theorem dX0_ask_77 : decode cX0_ask 77 = .ok (.iload 11, 2) := dk_21 11 (dk_at dksX0_ask_3 5 rfl rfl)
theorem dX0_ask_79 : decode cX0_ask 79 = .ok (.invokestatic 211, 3) := dk_184 0 211 (dk_at dksX0_ask_3 7 rfl rfl)
theorem dX0_ask_82 : decode cX0_ask 82 = .ok (.istore 7, 2) := dk_54 7 (dk_at dksX0_ask_3 10 rfl rfl)
theorem dX0_ask_84 : decode cX0_ask 84 = .ok (.iinc 10 1, 3) := dk_132 10 1 (dk_at dksX0_ask_3 12 rfl rfl)
theorem dX0_ask_87 : decode cX0_ask 87 = .ok (.goto (-26), 3) := dk_167 255 230 (dk_at dksX0_ask_3 15 rfl rfl)
theorem dX0_ask_90 : decode cX0_ask 90 = .ok (.iload 7, 2) := dk_21 7 (dk_at dksX0_ask_3 18 rfl rfl)
theorem dX0_ask_92 : decode cX0_ask 92 = .ok (.iload 5, 2) := dk_21 5 (dk_at dksX0_ask_3 20 rfl rfl)
theorem dX0_ask_94 : decode cX0_ask 94 = .ok (.if_icmp .lt 6, 3) := dk_161 0 6 (dk_at dksX0_ask_4 0 rfl rfl)
theorem dX0_ask_97 : decode cX0_ask 97 = .ok (.goto 11, 3) := dk_167 0 11 (dk_at dksX0_ask_4 3 rfl rfl)
theorem dX0_ask_100 : decode cX0_ask 100 = .ok (.iload 6, 2) := dk_21 6 (dk_at dksX0_ask_4 6 rfl rfl)
theorem dX0_ask_102 : decode cX0_ask 102 = .ok (.istore 4, 2) := dk_54 4 (dk_at dksX0_ask_4 8 rfl rfl)
theorem dX0_ask_104 : decode cX0_ask 104 = .ok (.iload 7, 2) := dk_21 7 (dk_at dksX0_ask_4 10 rfl rfl)
theorem dX0_ask_106 : decode cX0_ask 106 = .ok (.istore 5, 2) := dk_54 5 (dk_at dksX0_ask_4 12 rfl rfl)
theorem dX0_ask_108 : decode cX0_ask 108 = .ok (.iinc 6 1, 3) := dk_132 6 1 (dk_at dksX0_ask_4 14 rfl rfl)
theorem dX0_ask_111 : decode cX0_ask 111 = .ok (.goto (-79), 3) := dk_167 255 177 (dk_at dksX0_ask_4 17 rfl rfl)
theorem dX0_ask_114 : decode cX0_ask 114 = .ok (.iload 4, 2) := dk_21 4 (dk_at dksX0_ask_4 20 rfl rfl)
theorem dX0_ask_116 : decode cX0_ask 116 = .ok (.ifCond .ge 7, 3) := dk_156 0 7 (dk_at dksX0_ask_5 0 rfl rfl)
theorem dX0_ask_119 : decode cX0_ask 119 = .ok (.iconst (-1), 1) := dk_2 (dk_at dksX0_ask_5 3 rfl rfl)
theorem dX0_ask_120 : decode cX0_ask 120 = .ok (.goto 14, 3) := dk_167 0 14 (dk_at dksX0_ask_5 4 rfl rfl)
theorem dX0_ask_123 : decode cX0_ask 123 = .ok (.iload_n 1, 1) := dk_27 (dk_at dksX0_ask_5 7 rfl rfl)
theorem dX0_ask_124 : decode cX0_ask 124 = .ok (.ifCond .ne 8, 3) := dk_154 0 8 (dk_at dksX0_ask_5 8 rfl rfl)
theorem dX0_ask_127 : decode cX0_ask 127 = .ok (.iload 4, 2) := dk_21 4 (dk_at dksX0_ask_5 11 rfl rfl)
theorem dX0_ask_129 : decode cX0_ask 129 = .ok (.goto 5, 3) := dk_167 0 5 (dk_at dksX0_ask_5 13 rfl rfl)
theorem dX0_ask_132 : decode cX0_ask 132 = .ok (.iload 5, 2) := dk_21 5 (dk_at dksX0_ask_5 16 rfl rfl)
theorem dX0_ask_134 : decode cX0_ask 134 = .ok (.ireturn, 1) := dk_172 (dk_at dksX0_ask_5 18 rfl rfl)
abbrev cX0_image : ByteArray := prog_1_method_70_code
def yX0_image : MethodName := ⟨RX0, "image", "(I)I"⟩
def dkwX0_image_1 : List UInt8 := [180, 0, 87, 27, 4, 84, 42, 180, 0, 31, 180, 0, 244, 172]
abbrev dktX0_image_1 : List UInt8 := dkwX0_image_1 ++ []
def dkwX0_image_0 : List UInt8 := [27, 184, 1, 120, 154, 0, 5, 2, 172, 42, 180, 0, 84, 27, 50, 42, 180, 0, 31, 182, 0, 204, 87, 42]
abbrev dktX0_image_0 : List UInt8 := dkwX0_image_0 ++ dktX0_image_1
theorem dksX0_image_0 : cX0_image.data.toList.drop 0 = dktX0_image_0 := by decide +kernel
theorem dksX0_image_1 : cX0_image.data.toList.drop 24 = dktX0_image_1 := dk_seg dksX0_image_0 24 rfl rfl
theorem dX0_image_0 : decode cX0_image 0 = .ok (.iload_n 1, 1) := dk_27 (dk_at dksX0_image_0 0 rfl rfl)
theorem dX0_image_1 : decode cX0_image 1 = .ok (.invokestatic 376, 3) := dk_184 1 120 (dk_at dksX0_image_0 1 rfl rfl)
theorem dX0_image_4 : decode cX0_image 4 = .ok (.ifCond .ne 5, 3) := dk_154 0 5 (dk_at dksX0_image_0 4 rfl rfl)
theorem dX0_image_7 : decode cX0_image 7 = .ok (.iconst (-1), 1) := dk_2 (dk_at dksX0_image_0 7 rfl rfl)
theorem dX0_image_8 : decode cX0_image 8 = .ok (.ireturn, 1) := dk_172 (dk_at dksX0_image_0 8 rfl rfl)
theorem dX0_image_9 : decode cX0_image 9 = .ok (.aload_n 0, 1) := dk_42 (dk_at dksX0_image_0 9 rfl rfl)
theorem dX0_image_10 : decode cX0_image 10 = .ok (.getfield 84, 3) := dk_180 0 84 (dk_at dksX0_image_0 10 rfl rfl)
theorem dX0_image_13 : decode cX0_image 13 = .ok (.iload_n 1, 1) := dk_27 (dk_at dksX0_image_0 13 rfl rfl)
theorem dX0_image_14 : decode cX0_image 14 = .ok (.aaload, 1) := dk_50 (dk_at dksX0_image_0 14 rfl rfl)
theorem dX0_image_15 : decode cX0_image 15 = .ok (.aload_n 0, 1) := dk_42 (dk_at dksX0_image_0 15 rfl rfl)
theorem dX0_image_16 : decode cX0_image 16 = .ok (.getfield 31, 3) := dk_180 0 31 (dk_at dksX0_image_0 16 rfl rfl)
theorem dX0_image_19 : decode cX0_image 19 = .ok (.invokevirtual 204, 3) := dk_182 0 204 (dk_at dksX0_image_0 19 rfl rfl)
theorem dX0_image_22 : decode cX0_image 22 = .ok (.pop, 1) := dk_87 (dk_at dksX0_image_0 22 rfl rfl)
theorem dX0_image_23 : decode cX0_image 23 = .ok (.aload_n 0, 1) := dk_42 (dk_at dksX0_image_0 23 rfl rfl)
theorem dX0_image_24 : decode cX0_image 24 = .ok (.getfield 87, 3) := dk_180 0 87 (dk_at dksX0_image_1 0 rfl rfl)
theorem dX0_image_27 : decode cX0_image 27 = .ok (.iload_n 1, 1) := dk_27 (dk_at dksX0_image_1 3 rfl rfl)
theorem dX0_image_28 : decode cX0_image 28 = .ok (.iconst 1, 1) := dk_4 (dk_at dksX0_image_1 4 rfl rfl)
theorem dX0_image_29 : decode cX0_image 29 = .ok (.bastore, 1) := dk_84 (dk_at dksX0_image_1 5 rfl rfl)
theorem dX0_image_30 : decode cX0_image 30 = .ok (.aload_n 0, 1) := dk_42 (dk_at dksX0_image_1 6 rfl rfl)
theorem dX0_image_31 : decode cX0_image 31 = .ok (.getfield 31, 3) := dk_180 0 31 (dk_at dksX0_image_1 7 rfl rfl)
theorem dX0_image_34 : decode cX0_image 34 = .ok (.getfield 244, 3) := dk_180 0 244 (dk_at dksX0_image_1 10 rfl rfl)
theorem dX0_image_37 : decode cX0_image 37 = .ok (.ireturn, 1) := dk_172 (dk_at dksX0_image_1 13 rfl rfl)
abbrev cX0_isBox : ByteArray := prog_1_method_69_code
def yX0_isBox : MethodName := ⟨RX0, "isBox", "(I)Z"⟩
def dkwX0_isBox_0 : List UInt8 := [26, 3, 5, 184, 0, 138, 172]
abbrev dktX0_isBox_0 : List UInt8 := dkwX0_isBox_0 ++ []
theorem dksX0_isBox_0 : cX0_isBox.data.toList.drop 0 = dktX0_isBox_0 := by decide +kernel
theorem dX0_isBox_0 : decode cX0_isBox 0 = .ok (.iload_n 0, 1) := dk_26 (dk_at dksX0_isBox_0 0 rfl rfl)
theorem dX0_isBox_1 : decode cX0_isBox 1 = .ok (.iconst 0, 1) := dk_3 (dk_at dksX0_isBox_0 1 rfl rfl)
theorem dX0_isBox_2 : decode cX0_isBox 2 = .ok (.iconst 2, 1) := dk_5 (dk_at dksX0_isBox_0 2 rfl rfl)
theorem dX0_isBox_3 : decode cX0_isBox 3 = .ok (.invokestatic 138, 3) := dk_184 0 138 (dk_at dksX0_isBox_0 3 rfl rfl)
theorem dX0_isBox_6 : decode cX0_isBox 6 = .ok (.ireturn, 1) := dk_172 (dk_at dksX0_isBox_0 6 rfl rfl)
abbrev cX0_back : ByteArray := prog_1_method_71_code
def yX0_back : MethodName := ⟨RX0, "back", "(I)I"⟩
def dkwX0_back_2 : List UInt8 := [180, 0, 244, 172]
abbrev dktX0_back_2 : List UInt8 := dkwX0_back_2 ++ []
def dkwX0_back_1 : List UInt8 := [180, 0, 84, 27, 50, 182, 0, 204, 87, 42, 3, 181, 0, 103, 42, 3, 181, 0, 106, 42, 180, 0, 31]
abbrev dktX0_back_1 : List UInt8 := dkwX0_back_1 ++ dktX0_back_2
def dkwX0_back_0 : List UInt8 := [27, 184, 1, 120, 153, 0, 12, 42, 180, 0, 87, 27, 51, 154, 0, 5, 2, 172, 42, 180, 0, 31, 42]
abbrev dktX0_back_0 : List UInt8 := dkwX0_back_0 ++ dktX0_back_1
theorem dksX0_back_0 : cX0_back.data.toList.drop 0 = dktX0_back_0 := by decide +kernel
theorem dksX0_back_1 : cX0_back.data.toList.drop 23 = dktX0_back_1 := dk_seg dksX0_back_0 23 rfl rfl
theorem dksX0_back_2 : cX0_back.data.toList.drop 46 = dktX0_back_2 := dk_seg dksX0_back_1 23 rfl rfl
theorem dX0_back_0 : decode cX0_back 0 = .ok (.iload_n 1, 1) := dk_27 (dk_at dksX0_back_0 0 rfl rfl)
theorem dX0_back_1 : decode cX0_back 1 = .ok (.invokestatic 376, 3) := dk_184 1 120 (dk_at dksX0_back_0 1 rfl rfl)
theorem dX0_back_4 : decode cX0_back 4 = .ok (.ifCond .eq 12, 3) := dk_153 0 12 (dk_at dksX0_back_0 4 rfl rfl)
theorem dX0_back_7 : decode cX0_back 7 = .ok (.aload_n 0, 1) := dk_42 (dk_at dksX0_back_0 7 rfl rfl)
theorem dX0_back_8 : decode cX0_back 8 = .ok (.getfield 87, 3) := dk_180 0 87 (dk_at dksX0_back_0 8 rfl rfl)
theorem dX0_back_11 : decode cX0_back 11 = .ok (.iload_n 1, 1) := dk_27 (dk_at dksX0_back_0 11 rfl rfl)
theorem dX0_back_12 : decode cX0_back 12 = .ok (.baload, 1) := dk_51 (dk_at dksX0_back_0 12 rfl rfl)
theorem dX0_back_13 : decode cX0_back 13 = .ok (.ifCond .ne 5, 3) := dk_154 0 5 (dk_at dksX0_back_0 13 rfl rfl)
theorem dX0_back_16 : decode cX0_back 16 = .ok (.iconst (-1), 1) := dk_2 (dk_at dksX0_back_0 16 rfl rfl)
theorem dX0_back_17 : decode cX0_back 17 = .ok (.ireturn, 1) := dk_172 (dk_at dksX0_back_0 17 rfl rfl)
theorem dX0_back_18 : decode cX0_back 18 = .ok (.aload_n 0, 1) := dk_42 (dk_at dksX0_back_0 18 rfl rfl)
theorem dX0_back_19 : decode cX0_back 19 = .ok (.getfield 31, 3) := dk_180 0 31 (dk_at dksX0_back_0 19 rfl rfl)
theorem dX0_back_22 : decode cX0_back 22 = .ok (.aload_n 0, 1) := dk_42 (dk_at dksX0_back_0 22 rfl rfl)
theorem dX0_back_23 : decode cX0_back 23 = .ok (.getfield 84, 3) := dk_180 0 84 (dk_at dksX0_back_1 0 rfl rfl)
theorem dX0_back_26 : decode cX0_back 26 = .ok (.iload_n 1, 1) := dk_27 (dk_at dksX0_back_1 3 rfl rfl)
theorem dX0_back_27 : decode cX0_back 27 = .ok (.aaload, 1) := dk_50 (dk_at dksX0_back_1 4 rfl rfl)
theorem dX0_back_28 : decode cX0_back 28 = .ok (.invokevirtual 204, 3) := dk_182 0 204 (dk_at dksX0_back_1 5 rfl rfl)
theorem dX0_back_31 : decode cX0_back 31 = .ok (.pop, 1) := dk_87 (dk_at dksX0_back_1 8 rfl rfl)
theorem dX0_back_32 : decode cX0_back 32 = .ok (.aload_n 0, 1) := dk_42 (dk_at dksX0_back_1 9 rfl rfl)
theorem dX0_back_33 : decode cX0_back 33 = .ok (.iconst 0, 1) := dk_3 (dk_at dksX0_back_1 10 rfl rfl)
theorem dX0_back_34 : decode cX0_back 34 = .ok (.putfield 103, 3) := dk_181 0 103 (dk_at dksX0_back_1 11 rfl rfl)
theorem dX0_back_37 : decode cX0_back 37 = .ok (.aload_n 0, 1) := dk_42 (dk_at dksX0_back_1 14 rfl rfl)
theorem dX0_back_38 : decode cX0_back 38 = .ok (.iconst 0, 1) := dk_3 (dk_at dksX0_back_1 15 rfl rfl)
theorem dX0_back_39 : decode cX0_back 39 = .ok (.putfield 106, 3) := dk_181 0 106 (dk_at dksX0_back_1 16 rfl rfl)
theorem dX0_back_42 : decode cX0_back 42 = .ok (.aload_n 0, 1) := dk_42 (dk_at dksX0_back_1 19 rfl rfl)
theorem dX0_back_43 : decode cX0_back 43 = .ok (.getfield 31, 3) := dk_180 0 31 (dk_at dksX0_back_1 20 rfl rfl)
theorem dX0_back_46 : decode cX0_back 46 = .ok (.getfield 244, 3) := dk_180 0 244 (dk_at dksX0_back_2 0 rfl rfl)
theorem dX0_back_49 : decode cX0_back 49 = .ok (.ireturn, 1) := dk_172 (dk_at dksX0_back_2 3 rfl rfl)
abbrev cX0_about : ByteArray := prog_1_method_72_code
def yX0_about : MethodName := ⟨RX0, "about", "(I)I"⟩
def dkwX0_about_6 : List UInt8 := [2, 172]
abbrev dktX0_about_6 : List UInt8 := dkwX0_about_6 ++ []
def dkwX0_about_5 : List UInt8 := [172, 42, 180, 1, 103, 172, 42, 180, 0, 91, 172, 42, 180, 0, 20, 180, 1, 129, 172, 42, 180, 0, 109, 172]
abbrev dktX0_about_5 : List UInt8 := dkwX0_about_5 ++ dktX0_about_6
def dkwX0_about_4 : List UInt8 := [180, 0, 20, 180, 0, 208, 172, 42, 180, 0, 103, 172, 42, 180, 0, 106, 172, 42, 180, 0, 72, 182, 0, 132]
abbrev dktX0_about_4 : List UInt8 := dkwX0_about_4 ++ dktX0_about_5
def dkwX0_about_3 : List UInt8 := [180, 1, 123, 182, 0, 132, 172, 42, 180, 0, 31, 180, 0, 244, 172, 42, 180, 0, 31, 180, 1, 126, 172, 42]
abbrev dktX0_about_3 : List UInt8 := dkwX0_about_3 ++ dktX0_about_4
def dkwX0_about_2 : List UInt8 := [42, 182, 0, 126, 172, 42, 182, 0, 142, 172, 42, 180, 0, 20, 180, 1, 75, 172, 42, 180, 0, 20]
abbrev dktX0_about_2 : List UInt8 := dkwX0_about_2 ++ dktX0_about_3
def dkwX0_about_1 : List UInt8 := [170, 0, 0, 0, 0, 0, 165, 0, 0, 0, 0, 0, 0, 0, 13, 0, 0, 0, 71, 0, 0, 0, 76, 0, 0, 0, 81, 0, 0, 0, 89, 0, 0, 0, 100, 0, 0, 0, 108, 0, 0, 0, 116, 0, 0, 0, 124, 0, 0, 0, 129, 0, 0, 0, 134, 0, 0, 0, 142, 0, 0, 0, 147, 0, 0, 0, 152, 0, 0, 0, 160]
abbrev dktX0_about_1 : List UInt8 := dkwX0_about_1 ++ dktX0_about_2
def dkwX0_about_0 : List UInt8 := [27]
abbrev dktX0_about_0 : List UInt8 := dkwX0_about_0 ++ dktX0_about_1
theorem dksX0_about_0 : cX0_about.data.toList.drop 0 = dktX0_about_0 := by decide +kernel
theorem dksX0_about_1 : cX0_about.data.toList.drop 1 = dktX0_about_1 := dk_seg dksX0_about_0 1 rfl rfl
theorem dksX0_about_2 : cX0_about.data.toList.drop 72 = dktX0_about_2 := dk_seg dksX0_about_1 71 rfl rfl
theorem dksX0_about_3 : cX0_about.data.toList.drop 94 = dktX0_about_3 := dk_seg dksX0_about_2 22 rfl rfl
theorem dksX0_about_4 : cX0_about.data.toList.drop 118 = dktX0_about_4 := dk_seg dksX0_about_3 24 rfl rfl
theorem dksX0_about_5 : cX0_about.data.toList.drop 142 = dktX0_about_5 := dk_seg dksX0_about_4 24 rfl rfl
theorem dksX0_about_6 : cX0_about.data.toList.drop 166 = dktX0_about_6 := dk_seg dksX0_about_5 24 rfl rfl
theorem dX0_about_0 : decode cX0_about 0 = .ok (.iload_n 1, 1) := dk_27 (dk_at dksX0_about_0 0 rfl rfl)
theorem dX0_about_1 : decode cX0_about 1 = .ok (.tableswitch 165 0 13 #[71, 76, 81, 89, 100, 108, 116, 124, 129, 134, 142, 147, 152, 160], 71) := by decide +kernel
theorem dX0_about_72 : decode cX0_about 72 = .ok (.aload_n 0, 1) := dk_42 (dk_at dksX0_about_2 0 rfl rfl)
theorem dX0_about_73 : decode cX0_about 73 = .ok (.invokevirtual 126, 3) := dk_182 0 126 (dk_at dksX0_about_2 1 rfl rfl)
theorem dX0_about_76 : decode cX0_about 76 = .ok (.ireturn, 1) := dk_172 (dk_at dksX0_about_2 4 rfl rfl)
theorem dX0_about_77 : decode cX0_about 77 = .ok (.aload_n 0, 1) := dk_42 (dk_at dksX0_about_2 5 rfl rfl)
theorem dX0_about_78 : decode cX0_about 78 = .ok (.invokevirtual 142, 3) := dk_182 0 142 (dk_at dksX0_about_2 6 rfl rfl)
theorem dX0_about_81 : decode cX0_about 81 = .ok (.ireturn, 1) := dk_172 (dk_at dksX0_about_2 9 rfl rfl)
theorem dX0_about_82 : decode cX0_about 82 = .ok (.aload_n 0, 1) := dk_42 (dk_at dksX0_about_2 10 rfl rfl)
theorem dX0_about_83 : decode cX0_about 83 = .ok (.getfield 20, 3) := dk_180 0 20 (dk_at dksX0_about_2 11 rfl rfl)
theorem dX0_about_86 : decode cX0_about 86 = .ok (.getfield 331, 3) := dk_180 1 75 (dk_at dksX0_about_2 14 rfl rfl)
theorem dX0_about_89 : decode cX0_about 89 = .ok (.ireturn, 1) := dk_172 (dk_at dksX0_about_2 17 rfl rfl)
theorem dX0_about_90 : decode cX0_about 90 = .ok (.aload_n 0, 1) := dk_42 (dk_at dksX0_about_2 18 rfl rfl)
theorem dX0_about_91 : decode cX0_about 91 = .ok (.getfield 20, 3) := dk_180 0 20 (dk_at dksX0_about_2 19 rfl rfl)
theorem dX0_about_94 : decode cX0_about 94 = .ok (.getfield 379, 3) := dk_180 1 123 (dk_at dksX0_about_3 0 rfl rfl)
theorem dX0_about_97 : decode cX0_about 97 = .ok (.invokevirtual 132, 3) := dk_182 0 132 (dk_at dksX0_about_3 3 rfl rfl)
theorem dX0_about_100 : decode cX0_about 100 = .ok (.ireturn, 1) := dk_172 (dk_at dksX0_about_3 6 rfl rfl)
theorem dX0_about_101 : decode cX0_about 101 = .ok (.aload_n 0, 1) := dk_42 (dk_at dksX0_about_3 7 rfl rfl)
theorem dX0_about_102 : decode cX0_about 102 = .ok (.getfield 31, 3) := dk_180 0 31 (dk_at dksX0_about_3 8 rfl rfl)
theorem dX0_about_105 : decode cX0_about 105 = .ok (.getfield 244, 3) := dk_180 0 244 (dk_at dksX0_about_3 11 rfl rfl)
theorem dX0_about_108 : decode cX0_about 108 = .ok (.ireturn, 1) := dk_172 (dk_at dksX0_about_3 14 rfl rfl)
theorem dX0_about_109 : decode cX0_about 109 = .ok (.aload_n 0, 1) := dk_42 (dk_at dksX0_about_3 15 rfl rfl)
theorem dX0_about_110 : decode cX0_about 110 = .ok (.getfield 31, 3) := dk_180 0 31 (dk_at dksX0_about_3 16 rfl rfl)
theorem dX0_about_113 : decode cX0_about 113 = .ok (.getfield 382, 3) := dk_180 1 126 (dk_at dksX0_about_3 19 rfl rfl)
theorem dX0_about_116 : decode cX0_about 116 = .ok (.ireturn, 1) := dk_172 (dk_at dksX0_about_3 22 rfl rfl)
theorem dX0_about_117 : decode cX0_about 117 = .ok (.aload_n 0, 1) := dk_42 (dk_at dksX0_about_3 23 rfl rfl)
theorem dX0_about_118 : decode cX0_about 118 = .ok (.getfield 20, 3) := dk_180 0 20 (dk_at dksX0_about_4 0 rfl rfl)
theorem dX0_about_121 : decode cX0_about 121 = .ok (.getfield 208, 3) := dk_180 0 208 (dk_at dksX0_about_4 3 rfl rfl)
theorem dX0_about_124 : decode cX0_about 124 = .ok (.ireturn, 1) := dk_172 (dk_at dksX0_about_4 6 rfl rfl)
theorem dX0_about_125 : decode cX0_about 125 = .ok (.aload_n 0, 1) := dk_42 (dk_at dksX0_about_4 7 rfl rfl)
theorem dX0_about_126 : decode cX0_about 126 = .ok (.getfield 103, 3) := dk_180 0 103 (dk_at dksX0_about_4 8 rfl rfl)
theorem dX0_about_129 : decode cX0_about 129 = .ok (.ireturn, 1) := dk_172 (dk_at dksX0_about_4 11 rfl rfl)
theorem dX0_about_130 : decode cX0_about 130 = .ok (.aload_n 0, 1) := dk_42 (dk_at dksX0_about_4 12 rfl rfl)
theorem dX0_about_131 : decode cX0_about 131 = .ok (.getfield 106, 3) := dk_180 0 106 (dk_at dksX0_about_4 13 rfl rfl)
theorem dX0_about_134 : decode cX0_about 134 = .ok (.ireturn, 1) := dk_172 (dk_at dksX0_about_4 16 rfl rfl)
theorem dX0_about_135 : decode cX0_about 135 = .ok (.aload_n 0, 1) := dk_42 (dk_at dksX0_about_4 17 rfl rfl)
theorem dX0_about_136 : decode cX0_about 136 = .ok (.getfield 72, 3) := dk_180 0 72 (dk_at dksX0_about_4 18 rfl rfl)
theorem dX0_about_139 : decode cX0_about 139 = .ok (.invokevirtual 132, 3) := dk_182 0 132 (dk_at dksX0_about_4 21 rfl rfl)
theorem dX0_about_142 : decode cX0_about 142 = .ok (.ireturn, 1) := dk_172 (dk_at dksX0_about_5 0 rfl rfl)
theorem dX0_about_143 : decode cX0_about 143 = .ok (.aload_n 0, 1) := dk_42 (dk_at dksX0_about_5 1 rfl rfl)
theorem dX0_about_144 : decode cX0_about 144 = .ok (.getfield 359, 3) := dk_180 1 103 (dk_at dksX0_about_5 2 rfl rfl)
theorem dX0_about_147 : decode cX0_about 147 = .ok (.ireturn, 1) := dk_172 (dk_at dksX0_about_5 5 rfl rfl)
theorem dX0_about_148 : decode cX0_about 148 = .ok (.aload_n 0, 1) := dk_42 (dk_at dksX0_about_5 6 rfl rfl)
theorem dX0_about_149 : decode cX0_about 149 = .ok (.getfield 91, 3) := dk_180 0 91 (dk_at dksX0_about_5 7 rfl rfl)
theorem dX0_about_152 : decode cX0_about 152 = .ok (.ireturn, 1) := dk_172 (dk_at dksX0_about_5 10 rfl rfl)
theorem dX0_about_153 : decode cX0_about 153 = .ok (.aload_n 0, 1) := dk_42 (dk_at dksX0_about_5 11 rfl rfl)
theorem dX0_about_154 : decode cX0_about 154 = .ok (.getfield 20, 3) := dk_180 0 20 (dk_at dksX0_about_5 12 rfl rfl)
theorem dX0_about_157 : decode cX0_about 157 = .ok (.getfield 385, 3) := dk_180 1 129 (dk_at dksX0_about_5 15 rfl rfl)
theorem dX0_about_160 : decode cX0_about 160 = .ok (.ireturn, 1) := dk_172 (dk_at dksX0_about_5 18 rfl rfl)
theorem dX0_about_161 : decode cX0_about 161 = .ok (.aload_n 0, 1) := dk_42 (dk_at dksX0_about_5 19 rfl rfl)
theorem dX0_about_162 : decode cX0_about 162 = .ok (.getfield 109, 3) := dk_180 0 109 (dk_at dksX0_about_5 20 rfl rfl)
theorem dX0_about_165 : decode cX0_about 165 = .ok (.ireturn, 1) := dk_172 (dk_at dksX0_about_5 23 rfl rfl)
theorem dX0_about_166 : decode cX0_about 166 = .ok (.iconst (-1), 1) := dk_2 (dk_at dksX0_about_6 0 rfl rfl)
theorem dX0_about_167 : decode cX0_about 167 = .ok (.ireturn, 1) := dk_172 (dk_at dksX0_about_6 1 rfl rfl)
theorem q141 : (Jvm.Cond.initialized "WeatherWages") ∈ lw_all := lw_g (lw_at lw_m1 1 rfl) rfl
theorem q174 : (Jvm.Cond.instantiable "WeatherWages" (30 : Nat)) ∈ lw_all := lw_g (lw_at lw_m1 34 rfl) rfl
theorem q176 : (Jvm.Cond.instanceMethod ({ cls := "WeatherWages", name := "<init>", desc := "()V" } : Jvm.MethodName)) ∈ lw_all := lw_g (lw_at lw_m1 36 rfl) rfl
theorem q177 : (Jvm.Cond.code ({ cls := "WeatherWages", name := "<init>", desc := "()V" } : Jvm.MethodName) prog_1_method_2_code (2 : Nat) (Option.none : Option Jvm.ClassFile.FieldType)) ∈ lw_all := lw_g (lw_at lw_m1 37 rfl) rfl
theorem q178 : (Jvm.Cond.methodLink "WeatherWages" (1 : Nat) ({ cls := "java/lang/Object", name := "<init>", desc := "()V" } : Jvm.MethodName)) ∈ lw_all := lw_g (lw_at lw_m1 38 rfl) rfl
theorem q181 : (Jvm.Cond.classLink "WeatherWages" (17 : Nat) "WeatherWages$Book") ∈ lw_all := lw_g (lw_at lw_m1 41 rfl) rfl
theorem q183 : (Jvm.Cond.methodLinkNest "WeatherWages" (19 : Nat) ({ cls := "WeatherWages$Book", name := "<init>", desc := "()V" } : Jvm.MethodName) "WeatherWages") ∈ lw_tbl := lw_at lw_m1 43 rfl
theorem q252 : (Jvm.Cond.fieldLink "WeatherWages" (135 : Nat) "WeatherWages$Book" "kinds" "Ljava/util/ArrayList;") ∈ lw_all := lw_g (lw_at lw_m1 112 rfl) rfl
theorem q257 : (Jvm.Cond.fieldLink "WeatherWages" (130 : Nat) "WeatherWages$Book" "men" "Ljava/util/ArrayList;") ∈ lw_all := lw_g (lw_at lw_m1 117 rfl) rfl
theorem q261 : (Jvm.Cond.fieldLink "WeatherWages" (379 : Nat) "WeatherWages$Book" "rates" "Ljava/util/ArrayList;") ∈ lw_all := lw_g (lw_at lw_m1 121 rfl) rfl
theorem q264 : (Jvm.Cond.fieldLink "WeatherWages" (337 : Nat) "WeatherWages$Book" "books" "[I") ∈ lw_all := lw_g (lw_at lw_m1 124 rfl) rfl
theorem q269 : (Jvm.Cond.fieldLink "WeatherWages" (331 : Nat) "WeatherWages$Book" "bookMany" "I") ∈ lw_all := lw_g (lw_at lw_m1 129 rfl) rfl
theorem q271 : (Jvm.Cond.fieldLink "WeatherWages" (208 : Nat) "WeatherWages$Book" "hours" "I") ∈ lw_all := lw_g (lw_at lw_m1 131 rfl) rfl
theorem q276 : (Jvm.Cond.fieldLink "WeatherWages" (385 : Nat) "WeatherWages$Book" "units" "I") ∈ lw_all := lw_g (lw_at lw_m1 136 rfl) rfl
theorem q298 : (Jvm.Cond.classLink "WeatherWages" (24 : Nat) "WeatherWages$Plots") ∈ lw_all := lw_g (lw_at lw_m1 158 rfl) rfl
theorem q300 : (Jvm.Cond.methodLinkNest "WeatherWages" (26 : Nat) ({ cls := "WeatherWages$Plots", name := "<init>", desc := "()V" } : Jvm.MethodName) "WeatherWages") ∈ lw_tbl := lw_at lw_m1 160 rfl
theorem q305 : (Jvm.Cond.fieldLink "WeatherWages" (226 : Nat) "WeatherWages$Plots" "purse" "[I") ∈ lw_all := lw_g (lw_at lw_m1 165 rfl) rfl
theorem q307 : (Jvm.Cond.fieldLink "WeatherWages" (186 : Nat) "WeatherWages$Plots" "over" "[I") ∈ lw_all := lw_g (lw_at lw_m1 167 rfl) rfl
theorem q309 : (Jvm.Cond.fieldLink "WeatherWages" (155 : Nat) "WeatherWages$Plots" "crop" "[I") ∈ lw_all := lw_g (lw_at lw_m1 169 rfl) rfl
theorem q311 : (Jvm.Cond.fieldLink "WeatherWages" (158 : Nat) "WeatherWages$Plots" "spent" "[I") ∈ lw_all := lw_g (lw_at lw_m1 171 rfl) rfl
theorem q313 : (Jvm.Cond.fieldLink "WeatherWages" (244 : Nat) "WeatherWages$Plots" "week" "I") ∈ lw_all := lw_g (lw_at lw_m1 173 rfl) rfl
theorem q315 : (Jvm.Cond.fieldLink "WeatherWages" (382 : Nat) "WeatherWages$Plots" "seed" "I") ∈ lw_all := lw_g (lw_at lw_m1 175 rfl) rfl
theorem q329 : (Jvm.Cond.methodLink "WeatherWages" (27 : Nat) ({ cls := "WeatherWages$Plots", name := "begin", desc := "(LWeatherWages$Book;)LWeatherWages$Plots;" } : Jvm.MethodName)) ∈ lw_all := lw_g (lw_at lw_m1 189 rfl) rfl
theorem q353 : (Jvm.Cond.classLink "WeatherWages" (67 : Nat) "java/util/ArrayList") ∈ lw_all := lw_g (lw_at lw_m1 213 rfl) rfl
theorem q354 : (Jvm.Cond.methodLink "WeatherWages" (69 : Nat) ({ cls := "java/util/ArrayList", name := "<init>", desc := "(I)V" } : Jvm.MethodName)) ∈ lw_all := lw_g (lw_at lw_m1 214 rfl) rfl
theorem q355 : (Jvm.Cond.classLink "WeatherWages" (79 : Nat) "[[I") ∈ lw_all := lw_g (lw_at lw_m1 215 rfl) rfl
theorem q357 : (Jvm.Cond.fieldLink "WeatherWages" (9 : Nat) "WeatherWages" "tape" "[B") ∈ lw_all := lw_g (lw_at lw_m1 217 rfl) rfl
theorem q360 : (Jvm.Cond.fieldLink "WeatherWages" (91 : Nat) "WeatherWages" "taped" "I") ∈ lw_all := lw_g (lw_at lw_m1 220 rfl) rfl
theorem q361 : (Jvm.Cond.fieldLink "WeatherWages" (120 : Nat) "WeatherWages" "faultKind" "I") ∈ lw_all := lw_g (lw_at lw_m1 221 rfl) rfl
theorem q362 : (Jvm.Cond.fieldLink "WeatherWages" (13 : Nat) "WeatherWages" "faultPlace" "I") ∈ lw_all := lw_g (lw_at lw_m1 222 rfl) rfl
theorem q363 : (Jvm.Cond.fieldLink "WeatherWages" (20 : Nat) "WeatherWages" "book" "LWeatherWages$Book;") ∈ lw_all := lw_g (lw_at lw_m1 223 rfl) rfl
theorem q364 : (Jvm.Cond.fieldLink "WeatherWages" (31 : Nat) "WeatherWages" "now" "LWeatherWages$Plots;") ∈ lw_all := lw_g (lw_at lw_m1 224 rfl) rfl
theorem q365 : (Jvm.Cond.fieldLink "WeatherWages" (35 : Nat) "WeatherWages" "spare" "LWeatherWages$Plots;") ∈ lw_all := lw_g (lw_at lw_m1 225 rfl) rfl
theorem q366 : (Jvm.Cond.fieldLink "WeatherWages" (38 : Nat) "WeatherWages" "tried" "LWeatherWages$Plots;") ∈ lw_all := lw_g (lw_at lw_m1 226 rfl) rfl
theorem q367 : (Jvm.Cond.fieldLink "WeatherWages" (41 : Nat) "WeatherWages" "ahead" "LWeatherWages$Plots;") ∈ lw_all := lw_g (lw_at lw_m1 227 rfl) rfl
theorem q369 : (Jvm.Cond.fieldLink "WeatherWages" (359 : Nat) "WeatherWages" "time" "I") ∈ lw_all := lw_g (lw_at lw_m1 229 rfl) rfl
theorem q370 : (Jvm.Cond.fieldLink "WeatherWages" (44 : Nat) "WeatherWages" "were" "[LWeatherWages$Plots;") ∈ lw_all := lw_g (lw_at lw_m1 230 rfl) rfl
theorem q371 : (Jvm.Cond.fieldLink "WeatherWages" (103 : Nat) "WeatherWages" "acts" "I") ∈ lw_all := lw_g (lw_at lw_m1 231 rfl) rfl
theorem q372 : (Jvm.Cond.fieldLink "WeatherWages" (106 : Nat) "WeatherWages" "undone" "I") ∈ lw_all := lw_g (lw_at lw_m1 232 rfl) rfl
theorem q373 : (Jvm.Cond.fieldLink "WeatherWages" (48 : Nat) "WeatherWages" "row" "[I") ∈ lw_all := lw_g (lw_at lw_m1 233 rfl) rfl
theorem q374 : (Jvm.Cond.fieldLink "WeatherWages" (52 : Nat) "WeatherWages" "bestRow" "[I") ∈ lw_all := lw_g (lw_at lw_m1 234 rfl) rfl
theorem q375 : (Jvm.Cond.fieldLink "WeatherWages" (55 : Nat) "WeatherWages" "lies" "[I") ∈ lw_all := lw_g (lw_at lw_m1 235 rfl) rfl
theorem q376 : (Jvm.Cond.fieldLink "WeatherWages" (280 : Nat) "WeatherWages" "bestHours" "I") ∈ lw_all := lw_g (lw_at lw_m1 236 rfl) rfl
theorem q377 : (Jvm.Cond.fieldLink "WeatherWages" (269 : Nat) "WeatherWages" "bestGrowth" "I") ∈ lw_all := lw_g (lw_at lw_m1 237 rfl) rfl
theorem q378 : (Jvm.Cond.fieldLink "WeatherWages" (109 : Nat) "WeatherWages" "lain" "I") ∈ lw_all := lw_g (lw_at lw_m1 238 rfl) rfl
theorem q379 : (Jvm.Cond.fieldLink "WeatherWages" (58 : Nat) "WeatherWages" "both" "[I") ∈ lw_all := lw_g (lw_at lw_m1 239 rfl) rfl
theorem q380 : (Jvm.Cond.fieldLink "WeatherWages" (61 : Nat) "WeatherWages" "bestBoth" "[I") ∈ lw_all := lw_g (lw_at lw_m2 0 rfl) rfl
theorem q381 : (Jvm.Cond.fieldLink "WeatherWages" (64 : Nat) "WeatherWages" "spends" "[I") ∈ lw_all := lw_g (lw_at lw_m2 1 rfl) rfl
theorem q382 : (Jvm.Cond.fieldLink "WeatherWages" (322 : Nat) "WeatherWages" "gainUp" "I") ∈ lw_all := lw_g (lw_at lw_m2 2 rfl) rfl
theorem q383 : (Jvm.Cond.fieldLink "WeatherWages" (319 : Nat) "WeatherWages" "gainDown" "I") ∈ lw_all := lw_g (lw_at lw_m2 3 rfl) rfl
theorem q384 : (Jvm.Cond.fieldLink "WeatherWages" (316 : Nat) "WeatherWages" "gainOf" "I") ∈ lw_all := lw_g (lw_at lw_m2 4 rfl) rfl
theorem q385 : (Jvm.Cond.fieldLink "WeatherWages" (72 : Nat) "WeatherWages" "sights" "Ljava/util/ArrayList;") ∈ lw_all := lw_g (lw_at lw_m2 5 rfl) rfl
theorem q386 : (Jvm.Cond.fieldLink "WeatherWages" (76 : Nat) "WeatherWages" "given" "[I") ∈ lw_all := lw_g (lw_at lw_m2 6 rfl) rfl
theorem q387 : (Jvm.Cond.fieldLink "WeatherWages" (81 : Nat) "WeatherWages" "tally" "[[I") ∈ lw_all := lw_g (lw_at lw_m2 7 rfl) rfl
theorem q388 : (Jvm.Cond.fieldLink "WeatherWages" (84 : Nat) "WeatherWages" "boxes" "[LWeatherWages$Plots;") ∈ lw_all := lw_g (lw_at lw_m2 8 rfl) rfl
theorem q389 : (Jvm.Cond.fieldLink "WeatherWages" (87 : Nat) "WeatherWages" "isThere" "[Z") ∈ lw_all := lw_g (lw_at lw_m2 9 rfl) rfl
theorem q390 : (Jvm.Cond.laysFinal "WeatherWages" "WeatherWages" "tape" "[B") ∈ lw_all := lw_g (lw_at lw_m2 10 rfl) rfl
theorem q391 : (Jvm.Cond.soleField "WeatherWages" "tape") ∈ lw_all := lw_g (lw_at lw_m2 11 rfl) rfl
theorem q392 : (Jvm.Cond.lays "WeatherWages" "WeatherWages" "taped" "I") ∈ lw_all := lw_g (lw_at lw_m2 12 rfl) rfl
theorem q393 : (Jvm.Cond.soleField "WeatherWages" "taped") ∈ lw_all := lw_g (lw_at lw_m2 13 rfl) rfl
theorem q394 : (Jvm.Cond.lays "WeatherWages" "WeatherWages" "faultKind" "I") ∈ lw_all := lw_g (lw_at lw_m2 14 rfl) rfl
theorem q395 : (Jvm.Cond.soleField "WeatherWages" "faultKind") ∈ lw_all := lw_g (lw_at lw_m2 15 rfl) rfl
theorem q396 : (Jvm.Cond.lays "WeatherWages" "WeatherWages" "faultPlace" "I") ∈ lw_all := lw_g (lw_at lw_m2 16 rfl) rfl
theorem q397 : (Jvm.Cond.soleField "WeatherWages" "faultPlace") ∈ lw_all := lw_g (lw_at lw_m2 17 rfl) rfl
theorem q398 : (Jvm.Cond.lays "WeatherWages" "WeatherWages" "book" "LWeatherWages$Book;") ∈ lw_all := lw_g (lw_at lw_m2 18 rfl) rfl
theorem q399 : (Jvm.Cond.soleField "WeatherWages" "book") ∈ lw_all := lw_g (lw_at lw_m2 19 rfl) rfl
theorem q400 : (Jvm.Cond.laysFinal "WeatherWages" "WeatherWages" "now" "LWeatherWages$Plots;") ∈ lw_all := lw_g (lw_at lw_m2 20 rfl) rfl
theorem q401 : (Jvm.Cond.soleField "WeatherWages" "now") ∈ lw_all := lw_g (lw_at lw_m2 21 rfl) rfl
theorem q402 : (Jvm.Cond.laysFinal "WeatherWages" "WeatherWages" "spare" "LWeatherWages$Plots;") ∈ lw_all := lw_g (lw_at lw_m2 22 rfl) rfl
theorem q403 : (Jvm.Cond.soleField "WeatherWages" "spare") ∈ lw_all := lw_g (lw_at lw_m2 23 rfl) rfl
theorem q404 : (Jvm.Cond.laysFinal "WeatherWages" "WeatherWages" "tried" "LWeatherWages$Plots;") ∈ lw_all := lw_g (lw_at lw_m2 24 rfl) rfl
theorem q405 : (Jvm.Cond.soleField "WeatherWages" "tried") ∈ lw_all := lw_g (lw_at lw_m2 25 rfl) rfl
theorem q406 : (Jvm.Cond.laysFinal "WeatherWages" "WeatherWages" "ahead" "LWeatherWages$Plots;") ∈ lw_all := lw_g (lw_at lw_m2 26 rfl) rfl
theorem q407 : (Jvm.Cond.soleField "WeatherWages" "ahead") ∈ lw_all := lw_g (lw_at lw_m2 27 rfl) rfl
theorem q408 : (Jvm.Cond.lays "WeatherWages" "WeatherWages" "time" "I") ∈ lw_all := lw_g (lw_at lw_m2 28 rfl) rfl
theorem q409 : (Jvm.Cond.soleField "WeatherWages" "time") ∈ lw_all := lw_g (lw_at lw_m2 29 rfl) rfl
theorem q410 : (Jvm.Cond.laysFinal "WeatherWages" "WeatherWages" "were" "[LWeatherWages$Plots;") ∈ lw_all := lw_g (lw_at lw_m2 30 rfl) rfl
theorem q411 : (Jvm.Cond.soleField "WeatherWages" "were") ∈ lw_all := lw_g (lw_at lw_m2 31 rfl) rfl
theorem q412 : (Jvm.Cond.lays "WeatherWages" "WeatherWages" "acts" "I") ∈ lw_all := lw_g (lw_at lw_m2 32 rfl) rfl
theorem q413 : (Jvm.Cond.soleField "WeatherWages" "acts") ∈ lw_all := lw_g (lw_at lw_m2 33 rfl) rfl
theorem q414 : (Jvm.Cond.lays "WeatherWages" "WeatherWages" "undone" "I") ∈ lw_all := lw_g (lw_at lw_m2 34 rfl) rfl
theorem q415 : (Jvm.Cond.soleField "WeatherWages" "undone") ∈ lw_all := lw_g (lw_at lw_m2 35 rfl) rfl
theorem q416 : (Jvm.Cond.laysFinal "WeatherWages" "WeatherWages" "row" "[I") ∈ lw_all := lw_g (lw_at lw_m2 36 rfl) rfl
theorem q417 : (Jvm.Cond.soleField "WeatherWages" "row") ∈ lw_all := lw_g (lw_at lw_m2 37 rfl) rfl
theorem q418 : (Jvm.Cond.laysFinal "WeatherWages" "WeatherWages" "bestRow" "[I") ∈ lw_all := lw_g (lw_at lw_m2 38 rfl) rfl
theorem q419 : (Jvm.Cond.soleField "WeatherWages" "bestRow") ∈ lw_all := lw_g (lw_at lw_m2 39 rfl) rfl
theorem q420 : (Jvm.Cond.laysFinal "WeatherWages" "WeatherWages" "lies" "[I") ∈ lw_all := lw_g (lw_at lw_m2 40 rfl) rfl
theorem q421 : (Jvm.Cond.soleField "WeatherWages" "lies") ∈ lw_all := lw_g (lw_at lw_m2 41 rfl) rfl
theorem q422 : (Jvm.Cond.lays "WeatherWages" "WeatherWages" "bestHours" "I") ∈ lw_all := lw_g (lw_at lw_m2 42 rfl) rfl
theorem q423 : (Jvm.Cond.soleField "WeatherWages" "bestHours") ∈ lw_all := lw_g (lw_at lw_m2 43 rfl) rfl
theorem q424 : (Jvm.Cond.lays "WeatherWages" "WeatherWages" "bestGrowth" "I") ∈ lw_all := lw_g (lw_at lw_m2 44 rfl) rfl
theorem q425 : (Jvm.Cond.soleField "WeatherWages" "bestGrowth") ∈ lw_all := lw_g (lw_at lw_m2 45 rfl) rfl
theorem q426 : (Jvm.Cond.lays "WeatherWages" "WeatherWages" "lain" "I") ∈ lw_all := lw_g (lw_at lw_m2 46 rfl) rfl
theorem q427 : (Jvm.Cond.soleField "WeatherWages" "lain") ∈ lw_all := lw_g (lw_at lw_m2 47 rfl) rfl
theorem q428 : (Jvm.Cond.laysFinal "WeatherWages" "WeatherWages" "both" "[I") ∈ lw_all := lw_g (lw_at lw_m2 48 rfl) rfl
theorem q429 : (Jvm.Cond.soleField "WeatherWages" "both") ∈ lw_all := lw_g (lw_at lw_m2 49 rfl) rfl
theorem q430 : (Jvm.Cond.laysFinal "WeatherWages" "WeatherWages" "bestBoth" "[I") ∈ lw_all := lw_g (lw_at lw_m2 50 rfl) rfl
theorem q431 : (Jvm.Cond.soleField "WeatherWages" "bestBoth") ∈ lw_all := lw_g (lw_at lw_m2 51 rfl) rfl
theorem q432 : (Jvm.Cond.laysFinal "WeatherWages" "WeatherWages" "spends" "[I") ∈ lw_all := lw_g (lw_at lw_m2 52 rfl) rfl
theorem q433 : (Jvm.Cond.soleField "WeatherWages" "spends") ∈ lw_all := lw_g (lw_at lw_m2 53 rfl) rfl
theorem q434 : (Jvm.Cond.lays "WeatherWages" "WeatherWages" "gainUp" "I") ∈ lw_all := lw_g (lw_at lw_m2 54 rfl) rfl
theorem q435 : (Jvm.Cond.soleField "WeatherWages" "gainUp") ∈ lw_all := lw_g (lw_at lw_m2 55 rfl) rfl
theorem q436 : (Jvm.Cond.lays "WeatherWages" "WeatherWages" "gainDown" "I") ∈ lw_all := lw_g (lw_at lw_m2 56 rfl) rfl
theorem q437 : (Jvm.Cond.soleField "WeatherWages" "gainDown") ∈ lw_all := lw_g (lw_at lw_m2 57 rfl) rfl
theorem q438 : (Jvm.Cond.lays "WeatherWages" "WeatherWages" "gainOf" "I") ∈ lw_all := lw_g (lw_at lw_m2 58 rfl) rfl
theorem q439 : (Jvm.Cond.soleField "WeatherWages" "gainOf") ∈ lw_all := lw_g (lw_at lw_m2 59 rfl) rfl
theorem q440 : (Jvm.Cond.laysFinal "WeatherWages" "WeatherWages" "sights" "Ljava/util/ArrayList;") ∈ lw_all := lw_g (lw_at lw_m2 60 rfl) rfl
theorem q441 : (Jvm.Cond.soleField "WeatherWages" "sights") ∈ lw_all := lw_g (lw_at lw_m2 61 rfl) rfl
theorem q442 : (Jvm.Cond.laysFinal "WeatherWages" "WeatherWages" "given" "[I") ∈ lw_all := lw_g (lw_at lw_m2 62 rfl) rfl
theorem q443 : (Jvm.Cond.soleField "WeatherWages" "given") ∈ lw_all := lw_g (lw_at lw_m2 63 rfl) rfl
theorem q444 : (Jvm.Cond.laysFinal "WeatherWages" "WeatherWages" "tally" "[[I") ∈ lw_all := lw_g (lw_at lw_m2 64 rfl) rfl
theorem q445 : (Jvm.Cond.soleField "WeatherWages" "tally") ∈ lw_all := lw_g (lw_at lw_m2 65 rfl) rfl
theorem q446 : (Jvm.Cond.laysFinal "WeatherWages" "WeatherWages" "boxes" "[LWeatherWages$Plots;") ∈ lw_all := lw_g (lw_at lw_m2 66 rfl) rfl
theorem q447 : (Jvm.Cond.soleField "WeatherWages" "boxes") ∈ lw_all := lw_g (lw_at lw_m2 67 rfl) rfl
theorem q448 : (Jvm.Cond.laysFinal "WeatherWages" "WeatherWages" "isThere" "[Z") ∈ lw_all := lw_g (lw_at lw_m2 68 rfl) rfl
theorem q449 : (Jvm.Cond.soleField "WeatherWages" "isThere") ∈ lw_all := lw_g (lw_at lw_m2 69 rfl) rfl
theorem q450 : (Jvm.Cond.superclass "WeatherWages" "java/lang/Object") ∈ lw_all := lw_g (lw_at lw_m2 70 rfl) rfl
theorem q453 : (Jvm.Cond.instanceMethod ({ cls := "WeatherWages", name := "feed", desc := "(IIIII)I" } : Jvm.MethodName)) ∈ lw_all := lw_g (lw_at lw_m2 73 rfl) rfl
theorem q454 : (Jvm.Cond.selects "WeatherWages" ({ cls := "WeatherWages", name := "feed", desc := "(IIIII)I" } : Jvm.MethodName) ({ cls := "WeatherWages", name := "feed", desc := "(IIIII)I" } : Jvm.MethodName)) ∈ lw_all := lw_g (lw_at lw_m2 74 rfl) rfl
theorem q455 : (Jvm.Cond.code ({ cls := "WeatherWages", name := "feed", desc := "(IIIII)I" } : Jvm.MethodName) prog_1_method_3_code (12 : Nat) (Option.some Jvm.ClassFile.FieldType.int)) ∈ lw_all := lw_g (lw_at lw_m2 75 rfl) rfl
theorem q457 : (Jvm.Cond.instanceMethod ({ cls := "WeatherWages", name := "end", desc := "(I)I" } : Jvm.MethodName)) ∈ lw_all := lw_g (lw_at lw_m2 77 rfl) rfl
theorem q458 : (Jvm.Cond.selects "WeatherWages" ({ cls := "WeatherWages", name := "end", desc := "(I)I" } : Jvm.MethodName) ({ cls := "WeatherWages", name := "end", desc := "(I)I" } : Jvm.MethodName)) ∈ lw_all := lw_g (lw_at lw_m2 78 rfl) rfl
theorem q459 : (Jvm.Cond.code ({ cls := "WeatherWages", name := "end", desc := "(I)I" } : Jvm.MethodName) prog_1_method_4_code (2 : Nat) (Option.some Jvm.ClassFile.FieldType.int)) ∈ lw_all := lw_g (lw_at lw_m2 79 rfl) rfl
theorem q461 : (Jvm.Cond.instanceMethod ({ cls := "WeatherWages", name := "mill", desc := "()I" } : Jvm.MethodName)) ∈ lw_all := lw_g (lw_at lw_m2 81 rfl) rfl
theorem q462 : (Jvm.Cond.selects "WeatherWages" ({ cls := "WeatherWages", name := "mill", desc := "()I" } : Jvm.MethodName) ({ cls := "WeatherWages", name := "mill", desc := "()I" } : Jvm.MethodName)) ∈ lw_all := lw_g (lw_at lw_m2 82 rfl) rfl
theorem q463 : (Jvm.Cond.codeWith ({ cls := "WeatherWages", name := "mill", desc := "()I" } : Jvm.MethodName) prog_1_method_5_code (3 : Nat) (Option.some Jvm.ClassFile.FieldType.int) [((2 : Nat), (71 : Nat), (74 : Nat), (115 : Nat))]) ∈ lw_all := lw_g (lw_at lw_m2 83 rfl) rfl
theorem q464 : (Jvm.Cond.classLink "WeatherWages" (115 : Nat) "WeatherWages$Wrong") ∈ lw_all := lw_g (lw_at lw_m2 84 rfl) rfl
theorem q465 : (Jvm.Cond.classLink "WeatherWages" (94 : Nat) "WeatherWages$Reader") ∈ lw_all := lw_g (lw_at lw_m2 85 rfl) rfl
theorem q467 : (Jvm.Cond.methodLinkNest "WeatherWages" (96 : Nat) ({ cls := "WeatherWages$Reader", name := "<init>", desc := "(LWeatherWages;)V" } : Jvm.MethodName) "WeatherWages") ∈ lw_tbl := lw_at lw_m2 87 rfl
theorem q508 : (Jvm.Cond.methodLink "WeatherWages" (99 : Nat) ({ cls := "WeatherWages$Reader", name := "text", desc := "()LWeatherWages$Book;" } : Jvm.MethodName)) ∈ lw_all := lw_g (lw_at lw_m2 128 rfl) rfl
theorem q880 : (Jvm.Cond.fieldLink "WeatherWages" (117 : Nat) "WeatherWages$Wrong" "kind" "I") ∈ lw_all := lw_g (lw_at lw_m4 20 rfl) rfl
theorem q882 : (Jvm.Cond.fieldLink "WeatherWages" (123 : Nat) "WeatherWages$Wrong" "place" "I") ∈ lw_all := lw_g (lw_at lw_m4 22 rfl) rfl
theorem q925 : (Jvm.Cond.selects "WeatherWages" ({ cls := "java/lang/Object", name := "getClass", desc := "()Ljava/lang/Class;" } : Jvm.MethodName) ({ cls := "java/lang/Object", name := "getClass", desc := "()Ljava/lang/Class;" } : Jvm.MethodName)) ∈ lw_all := lw_g (lw_at lw_m4 65 rfl) rfl
theorem q978 : (Jvm.Cond.fieldLink "WeatherWages" (189 : Nat) "WeatherWages$Man" "pay" "[I") ∈ lw_all := lw_g (lw_at lw_m4 118 rfl) rfl
theorem q986 : (Jvm.Cond.fieldLink "WeatherWages" (172 : Nat) "WeatherWages$Man" "hedge" "I") ∈ lw_all := lw_g (lw_at lw_m4 126 rfl) rfl
theorem q988 : (Jvm.Cond.fieldLink "WeatherWages" (175 : Nat) "WeatherWages$Man" "isLoose" "Z") ∈ lw_all := lw_g (lw_at lw_m4 128 rfl) rfl
theorem q1118 : (Jvm.Cond.fieldLink "WeatherWages" (236 : Nat) "WeatherWages$Rate" "costs" "I") ∈ lw_all := lw_g (lw_at lw_m5 18 rfl) rfl
theorem q1120 : (Jvm.Cond.fieldLink "WeatherWages" (241 : Nat) "WeatherWages$Rate" "brings" "I") ∈ lw_all := lw_g (lw_at lw_m5 20 rfl) rfl
theorem q1226 : (Jvm.Cond.methodLink "WeatherWages" (112 : Nat) ({ cls := "java/util/ArrayList", name := "clear", desc := "()V" } : Jvm.MethodName)) ∈ lw_all := lw_g (lw_at lw_m5 126 rfl) rfl
theorem q1230 : (Jvm.Cond.methodLink "WeatherWages" (126 : Nat) ({ cls := "WeatherWages", name := "men", desc := "()I" } : Jvm.MethodName)) ∈ lw_all := lw_g (lw_at lw_m5 130 rfl) rfl
theorem q1231 : (Jvm.Cond.privateMethod ({ cls := "WeatherWages", name := "men", desc := "()I" } : Jvm.MethodName)) ∈ lw_tbl := lw_at lw_m5 131 rfl
theorem q1232 : (Jvm.Cond.instanceMethod ({ cls := "WeatherWages", name := "men", desc := "()I" } : Jvm.MethodName)) ∈ lw_all := lw_g (lw_at lw_m5 132 rfl) rfl
theorem q1233 : (Jvm.Cond.code ({ cls := "WeatherWages", name := "men", desc := "()I" } : Jvm.MethodName) prog_1_method_7_code (1 : Nat) (Option.some Jvm.ClassFile.FieldType.int)) ∈ lw_all := lw_g (lw_at lw_m5 133 rfl) rfl
theorem q1234 : (Jvm.Cond.methodLink "WeatherWages" (132 : Nat) ({ cls := "java/util/ArrayList", name := "size", desc := "()I" } : Jvm.MethodName)) ∈ lw_all := lw_g (lw_at lw_m5 134 rfl) rfl
theorem q1236 : (Jvm.Cond.instanceMethod ({ cls := "WeatherWages", name := "fault", desc := "(I)I" } : Jvm.MethodName)) ∈ lw_all := lw_g (lw_at lw_m5 136 rfl) rfl
theorem q1237 : (Jvm.Cond.selects "WeatherWages" ({ cls := "WeatherWages", name := "fault", desc := "(I)I" } : Jvm.MethodName) ({ cls := "WeatherWages", name := "fault", desc := "(I)I" } : Jvm.MethodName)) ∈ lw_all := lw_g (lw_at lw_m5 137 rfl) rfl
theorem q1238 : (Jvm.Cond.code ({ cls := "WeatherWages", name := "fault", desc := "(I)I" } : Jvm.MethodName) prog_1_method_6_code (2 : Nat) (Option.some Jvm.ClassFile.FieldType.int)) ∈ lw_all := lw_g (lw_at lw_m5 138 rfl) rfl
theorem q1240 : (Jvm.Cond.instanceMethod ({ cls := "WeatherWages", name := "man", desc := "(II)I" } : Jvm.MethodName)) ∈ lw_all := lw_g (lw_at lw_m5 140 rfl) rfl
theorem q1241 : (Jvm.Cond.selects "WeatherWages" ({ cls := "WeatherWages", name := "man", desc := "(II)I" } : Jvm.MethodName) ({ cls := "WeatherWages", name := "man", desc := "(II)I" } : Jvm.MethodName)) ∈ lw_all := lw_g (lw_at lw_m5 141 rfl) rfl
theorem q1242 : (Jvm.Cond.code ({ cls := "WeatherWages", name := "man", desc := "(II)I" } : Jvm.MethodName) prog_1_method_12_code (4 : Nat) (Option.some Jvm.ClassFile.FieldType.int)) ∈ lw_all := lw_g (lw_at lw_m5 142 rfl) rfl
theorem q1243 : (Jvm.Cond.methodLink "WeatherWages" (144 : Nat) ({ cls := "WeatherWages", name := "isMan", desc := "(I)Z" } : Jvm.MethodName)) ∈ lw_all := lw_g (lw_at lw_m5 143 rfl) rfl
theorem q1244 : (Jvm.Cond.privateMethod ({ cls := "WeatherWages", name := "isMan", desc := "(I)Z" } : Jvm.MethodName)) ∈ lw_tbl := lw_at lw_m5 144 rfl
theorem q1245 : (Jvm.Cond.instanceMethod ({ cls := "WeatherWages", name := "isMan", desc := "(I)Z" } : Jvm.MethodName)) ∈ lw_all := lw_g (lw_at lw_m5 145 rfl) rfl
theorem q1246 : (Jvm.Cond.code ({ cls := "WeatherWages", name := "isMan", desc := "(I)Z" } : Jvm.MethodName) prog_1_method_9_code (2 : Nat) (Option.some Jvm.ClassFile.FieldType.boolean)) ∈ lw_all := lw_g (lw_at lw_m5 146 rfl) rfl
theorem q1247 : (Jvm.Cond.methodLink "WeatherWages" (138 : Nat) ({ cls := "WeatherWages", name := "isIn", desc := "(III)Z" } : Jvm.MethodName)) ∈ lw_all := lw_g (lw_at lw_m5 147 rfl) rfl
theorem q1248 : (Jvm.Cond.static ({ cls := "WeatherWages", name := "isIn", desc := "(III)Z" } : Jvm.MethodName)) ∈ lw_all := lw_g (lw_at lw_m5 148 rfl) rfl
theorem q1249 : (Jvm.Cond.code ({ cls := "WeatherWages", name := "isIn", desc := "(III)Z" } : Jvm.MethodName) prog_1_method_1_code (3 : Nat) (Option.some Jvm.ClassFile.FieldType.boolean)) ∈ lw_all := lw_g (lw_at lw_m5 149 rfl) rfl
theorem q1250 : (Jvm.Cond.constant "WeatherWages" (148 : Nat) (-1000000 : Int32)) ∈ lw_all := lw_g (lw_at lw_m5 150 rfl) rfl
theorem q1251 : (Jvm.Cond.methodLink "WeatherWages" (149 : Nat) ({ cls := "java/util/ArrayList", name := "get", desc := "(I)Ljava/lang/Object;" } : Jvm.MethodName)) ∈ lw_all := lw_g (lw_at lw_m5 151 rfl) rfl
theorem q1252 : (Jvm.Cond.classLink "WeatherWages" (153 : Nat) "WeatherWages$Man") ∈ lw_all := lw_g (lw_at lw_m5 152 rfl) rfl
theorem q1253 : (Jvm.Cond.methodLink "WeatherWages" (161 : Nat) ({ cls := "WeatherWages$Plots", name := "growth", desc := "(LWeatherWages$Book;I)I" } : Jvm.MethodName)) ∈ lw_all := lw_g (lw_at lw_m5 153 rfl) rfl
theorem q1325 : (Jvm.Cond.methodLink "WeatherWages" (165 : Nat) ({ cls := "WeatherWages$Plots", name := "rich", desc := "(I)I" } : Jvm.MethodName)) ∈ lw_all := lw_g (lw_at lw_m5 225 rfl) rfl
theorem q1333 : (Jvm.Cond.methodLink "WeatherWages" (169 : Nat) ({ cls := "WeatherWages$Man", name := "wages", desc := "()I" } : Jvm.MethodName)) ∈ lw_all := lw_g (lw_at lw_m5 233 rfl) rfl
theorem q1338 : (Jvm.Cond.instanceMethod ({ cls := "WeatherWages", name := "purse", desc := "(II)I" } : Jvm.MethodName)) ∈ lw_all := lw_g (lw_at lw_m5 238 rfl) rfl
theorem q1339 : (Jvm.Cond.selects "WeatherWages" ({ cls := "WeatherWages", name := "purse", desc := "(II)I" } : Jvm.MethodName) ({ cls := "WeatherWages", name := "purse", desc := "(II)I" } : Jvm.MethodName)) ∈ lw_all := lw_g (lw_at lw_m5 239 rfl) rfl
theorem q1340 : (Jvm.Cond.code ({ cls := "WeatherWages", name := "purse", desc := "(II)I" } : Jvm.MethodName) prog_1_method_13_code (3 : Nat) (Option.some Jvm.ClassFile.FieldType.int)) ∈ lw_all := lw_g (lw_at lw_m6 0 rfl) rfl
theorem q1341 : (Jvm.Cond.methodLink "WeatherWages" (179 : Nat) ({ cls := "WeatherWages", name := "isKind", desc := "(I)Z" } : Jvm.MethodName)) ∈ lw_all := lw_g (lw_at lw_m6 1 rfl) rfl
theorem q1342 : (Jvm.Cond.privateMethod ({ cls := "WeatherWages", name := "isKind", desc := "(I)Z" } : Jvm.MethodName)) ∈ lw_tbl := lw_at lw_m6 2 rfl
theorem q1343 : (Jvm.Cond.instanceMethod ({ cls := "WeatherWages", name := "isKind", desc := "(I)Z" } : Jvm.MethodName)) ∈ lw_all := lw_g (lw_at lw_m6 3 rfl) rfl
theorem q1344 : (Jvm.Cond.code ({ cls := "WeatherWages", name := "isKind", desc := "(I)Z" } : Jvm.MethodName) prog_1_method_10_code (2 : Nat) (Option.some Jvm.ClassFile.FieldType.boolean)) ∈ lw_all := lw_g (lw_at lw_m6 4 rfl) rfl
theorem q1345 : (Jvm.Cond.methodLink "WeatherWages" (142 : Nat) ({ cls := "WeatherWages", name := "kinds", desc := "()I" } : Jvm.MethodName)) ∈ lw_all := lw_g (lw_at lw_m6 5 rfl) rfl
theorem q1346 : (Jvm.Cond.privateMethod ({ cls := "WeatherWages", name := "kinds", desc := "()I" } : Jvm.MethodName)) ∈ lw_tbl := lw_at lw_m6 6 rfl
theorem q1347 : (Jvm.Cond.instanceMethod ({ cls := "WeatherWages", name := "kinds", desc := "()I" } : Jvm.MethodName)) ∈ lw_all := lw_g (lw_at lw_m6 7 rfl) rfl
theorem q1348 : (Jvm.Cond.code ({ cls := "WeatherWages", name := "kinds", desc := "()I" } : Jvm.MethodName) prog_1_method_8_code (1 : Nat) (Option.some Jvm.ClassFile.FieldType.int)) ∈ lw_all := lw_g (lw_at lw_m6 8 rfl) rfl
theorem q1349 : (Jvm.Cond.methodLink "WeatherWages" (182 : Nat) ({ cls := "WeatherWages$Plots", name := "purse", desc := "(II)I" } : Jvm.MethodName)) ∈ lw_all := lw_g (lw_at lw_m6 9 rfl) rfl
theorem q1351 : (Jvm.Cond.instanceMethod ({ cls := "WeatherWages", name := "over", desc := "(II)I" } : Jvm.MethodName)) ∈ lw_all := lw_g (lw_at lw_m6 11 rfl) rfl
theorem q1352 : (Jvm.Cond.selects "WeatherWages" ({ cls := "WeatherWages", name := "over", desc := "(II)I" } : Jvm.MethodName) ({ cls := "WeatherWages", name := "over", desc := "(II)I" } : Jvm.MethodName)) ∈ lw_all := lw_g (lw_at lw_m6 12 rfl) rfl
theorem q1353 : (Jvm.Cond.code ({ cls := "WeatherWages", name := "over", desc := "(II)I" } : Jvm.MethodName) prog_1_method_14_code (3 : Nat) (Option.some Jvm.ClassFile.FieldType.int)) ∈ lw_all := lw_g (lw_at lw_m6 13 rfl) rfl
theorem q1355 : (Jvm.Cond.instanceMethod ({ cls := "WeatherWages", name := "pay", desc := "(II)I" } : Jvm.MethodName)) ∈ lw_all := lw_g (lw_at lw_m6 15 rfl) rfl
theorem q1356 : (Jvm.Cond.selects "WeatherWages" ({ cls := "WeatherWages", name := "pay", desc := "(II)I" } : Jvm.MethodName) ({ cls := "WeatherWages", name := "pay", desc := "(II)I" } : Jvm.MethodName)) ∈ lw_all := lw_g (lw_at lw_m6 16 rfl) rfl
theorem q1357 : (Jvm.Cond.code ({ cls := "WeatherWages", name := "pay", desc := "(II)I" } : Jvm.MethodName) prog_1_method_15_code (3 : Nat) (Option.some Jvm.ClassFile.FieldType.int)) ∈ lw_all := lw_g (lw_at lw_m6 17 rfl) rfl
theorem q1359 : (Jvm.Cond.instanceMethod ({ cls := "WeatherWages", name := "all", desc := "(II)I" } : Jvm.MethodName)) ∈ lw_all := lw_g (lw_at lw_m6 19 rfl) rfl
theorem q1360 : (Jvm.Cond.selects "WeatherWages" ({ cls := "WeatherWages", name := "all", desc := "(II)I" } : Jvm.MethodName) ({ cls := "WeatherWages", name := "all", desc := "(II)I" } : Jvm.MethodName)) ∈ lw_all := lw_g (lw_at lw_m6 20 rfl) rfl
theorem q1361 : (Jvm.Cond.code ({ cls := "WeatherWages", name := "all", desc := "(II)I" } : Jvm.MethodName) prog_1_method_16_code (5 : Nat) (Option.some Jvm.ClassFile.FieldType.int)) ∈ lw_all := lw_g (lw_at lw_m6 21 rfl) rfl
theorem q1362 : (Jvm.Cond.methodLink "WeatherWages" (192 : Nat) ({ cls := "WeatherWages", name := "over", desc := "(II)I" } : Jvm.MethodName)) ∈ lw_all := lw_g (lw_at lw_m6 22 rfl) rfl
theorem q1364 : (Jvm.Cond.instanceMethod ({ cls := "WeatherWages", name := "left", desc := "(I)I" } : Jvm.MethodName)) ∈ lw_all := lw_g (lw_at lw_m6 24 rfl) rfl
theorem q1365 : (Jvm.Cond.selects "WeatherWages" ({ cls := "WeatherWages", name := "left", desc := "(I)I" } : Jvm.MethodName) ({ cls := "WeatherWages", name := "left", desc := "(I)I" } : Jvm.MethodName)) ∈ lw_all := lw_g (lw_at lw_m6 25 rfl) rfl
theorem q1366 : (Jvm.Cond.code ({ cls := "WeatherWages", name := "left", desc := "(I)I" } : Jvm.MethodName) prog_1_method_17_code (2 : Nat) (Option.some Jvm.ClassFile.FieldType.int)) ∈ lw_all := lw_g (lw_at lw_m6 26 rfl) rfl
theorem q1367 : (Jvm.Cond.methodLink "WeatherWages" (194 : Nat) ({ cls := "WeatherWages", name := "left", desc := "(LWeatherWages$Plots;I)I" } : Jvm.MethodName)) ∈ lw_all := lw_g (lw_at lw_m6 27 rfl) rfl
theorem q1368 : (Jvm.Cond.privateMethod ({ cls := "WeatherWages", name := "left", desc := "(LWeatherWages$Plots;I)I" } : Jvm.MethodName)) ∈ lw_tbl := lw_at lw_m6 28 rfl
theorem q1369 : (Jvm.Cond.instanceMethod ({ cls := "WeatherWages", name := "left", desc := "(LWeatherWages$Plots;I)I" } : Jvm.MethodName)) ∈ lw_all := lw_g (lw_at lw_m6 29 rfl) rfl
theorem q1370 : (Jvm.Cond.code ({ cls := "WeatherWages", name := "left", desc := "(LWeatherWages$Plots;I)I" } : Jvm.MethodName) prog_1_method_20_code (3 : Nat) (Option.some Jvm.ClassFile.FieldType.int)) ∈ lw_all := lw_g (lw_at lw_m6 30 rfl) rfl
theorem q1371 : (Jvm.Cond.methodLink "WeatherWages" (211 : Nat) ({ cls := "java/lang/Math", name := "max", desc := "(II)I" } : Jvm.MethodName)) ∈ lw_all := lw_g (lw_at lw_m6 31 rfl) rfl
theorem q1373 : (Jvm.Cond.instanceMethod ({ cls := "WeatherWages", name := "spend", desc := "(III)I" } : Jvm.MethodName)) ∈ lw_all := lw_g (lw_at lw_m6 33 rfl) rfl
theorem q1374 : (Jvm.Cond.selects "WeatherWages" ({ cls := "WeatherWages", name := "spend", desc := "(III)I" } : Jvm.MethodName) ({ cls := "WeatherWages", name := "spend", desc := "(III)I" } : Jvm.MethodName)) ∈ lw_all := lw_g (lw_at lw_m6 34 rfl) rfl
theorem q1375 : (Jvm.Cond.code ({ cls := "WeatherWages", name := "spend", desc := "(III)I" } : Jvm.MethodName) prog_1_method_21_code (4 : Nat) (Option.some Jvm.ClassFile.FieldType.int)) ∈ lw_all := lw_g (lw_at lw_m6 35 rfl) rfl
theorem q1376 : (Jvm.Cond.methodLink "WeatherWages" (216 : Nat) ({ cls := "WeatherWages", name := "act", desc := "()V" } : Jvm.MethodName)) ∈ lw_all := lw_g (lw_at lw_m6 36 rfl) rfl
theorem q1377 : (Jvm.Cond.privateMethod ({ cls := "WeatherWages", name := "act", desc := "()V" } : Jvm.MethodName)) ∈ lw_tbl := lw_at lw_m6 37 rfl
theorem q1378 : (Jvm.Cond.instanceMethod ({ cls := "WeatherWages", name := "act", desc := "()V" } : Jvm.MethodName)) ∈ lw_all := lw_g (lw_at lw_m6 38 rfl) rfl
theorem q1379 : (Jvm.Cond.code ({ cls := "WeatherWages", name := "act", desc := "()V" } : Jvm.MethodName) prog_1_method_18_code (2 : Nat) (Option.none : Option Jvm.ClassFile.FieldType)) ∈ lw_all := lw_g (lw_at lw_m6 39 rfl) rfl
theorem q1380 : (Jvm.Cond.methodLink "WeatherWages" (198 : Nat) ({ cls := "java/lang/System", name := "arraycopy", desc := "(Ljava/lang/Object;ILjava/lang/Object;II)V" } : Jvm.MethodName)) ∈ lw_all := lw_g (lw_at lw_m6 40 rfl) rfl
theorem q1381 : (Jvm.Cond.methodLink "WeatherWages" (204 : Nat) ({ cls := "WeatherWages$Plots", name := "copy", desc := "(LWeatherWages$Plots;)LWeatherWages$Plots;" } : Jvm.MethodName)) ∈ lw_all := lw_g (lw_at lw_m6 41 rfl) rfl
theorem q1386 : (Jvm.Cond.methodLink "WeatherWages" (219 : Nat) ({ cls := "WeatherWages$Plots", name := "spends", desc := "(LWeatherWages$Book;III)V" } : Jvm.MethodName)) ∈ lw_all := lw_g (lw_at lw_m6 46 rfl) rfl
theorem q1399 : (Jvm.Cond.instanceMethod ({ cls := "WeatherWages", name := "give", desc := "(IIII)I" } : Jvm.MethodName)) ∈ lw_all := lw_g (lw_at lw_m6 59 rfl) rfl
theorem q1400 : (Jvm.Cond.selects "WeatherWages" ({ cls := "WeatherWages", name := "give", desc := "(IIII)I" } : Jvm.MethodName) ({ cls := "WeatherWages", name := "give", desc := "(IIII)I" } : Jvm.MethodName)) ∈ lw_all := lw_g (lw_at lw_m6 60 rfl) rfl
theorem q1401 : (Jvm.Cond.code ({ cls := "WeatherWages", name := "give", desc := "(IIII)I" } : Jvm.MethodName) prog_1_method_22_code (5 : Nat) (Option.some Jvm.ClassFile.FieldType.int)) ∈ lw_all := lw_g (lw_at lw_m6 61 rfl) rfl
theorem q1402 : (Jvm.Cond.methodLink "WeatherWages" (222 : Nat) ({ cls := "WeatherWages", name := "areTwo", desc := "(II)Z" } : Jvm.MethodName)) ∈ lw_all := lw_g (lw_at lw_m6 62 rfl) rfl
theorem q1403 : (Jvm.Cond.privateMethod ({ cls := "WeatherWages", name := "areTwo", desc := "(II)Z" } : Jvm.MethodName)) ∈ lw_tbl := lw_at lw_m6 63 rfl
theorem q1404 : (Jvm.Cond.instanceMethod ({ cls := "WeatherWages", name := "areTwo", desc := "(II)Z" } : Jvm.MethodName)) ∈ lw_all := lw_g (lw_at lw_m6 64 rfl) rfl
theorem q1405 : (Jvm.Cond.code ({ cls := "WeatherWages", name := "areTwo", desc := "(II)Z" } : Jvm.MethodName) prog_1_method_11_code (3 : Nat) (Option.some Jvm.ClassFile.FieldType.boolean)) ∈ lw_all := lw_g (lw_at lw_m6 65 rfl) rfl
theorem q1406 : (Jvm.Cond.methodLink "WeatherWages" (228 : Nat) ({ cls := "WeatherWages$Plots", name := "gets", desc := "(III)V" } : Jvm.MethodName)) ∈ lw_all := lw_g (lw_at lw_m6 66 rfl) rfl
theorem q1412 : (Jvm.Cond.instanceMethod ({ cls := "WeatherWages", name := "change", desc := "(III)I" } : Jvm.MethodName)) ∈ lw_all := lw_g (lw_at lw_m6 72 rfl) rfl
theorem q1413 : (Jvm.Cond.selects "WeatherWages" ({ cls := "WeatherWages", name := "change", desc := "(III)I" } : Jvm.MethodName) ({ cls := "WeatherWages", name := "change", desc := "(III)I" } : Jvm.MethodName)) ∈ lw_all := lw_g (lw_at lw_m6 73 rfl) rfl
theorem q1414 : (Jvm.Cond.code ({ cls := "WeatherWages", name := "change", desc := "(III)I" } : Jvm.MethodName) prog_1_method_23_code (5 : Nat) (Option.some Jvm.ClassFile.FieldType.int)) ∈ lw_all := lw_g (lw_at lw_m6 74 rfl) rfl
theorem q1415 : (Jvm.Cond.methodLink "WeatherWages" (232 : Nat) ({ cls := "WeatherWages$Book", name := "rate", desc := "(II)LWeatherWages$Rate;" } : Jvm.MethodName)) ∈ lw_all := lw_g (lw_at lw_m6 75 rfl) rfl
theorem q1417 : (Jvm.Cond.instanceMethod ({ cls := "WeatherWages", name := "week", desc := "()I" } : Jvm.MethodName)) ∈ lw_all := lw_g (lw_at lw_m6 77 rfl) rfl
theorem q1418 : (Jvm.Cond.selects "WeatherWages" ({ cls := "WeatherWages", name := "week", desc := "()I" } : Jvm.MethodName) ({ cls := "WeatherWages", name := "week", desc := "()I" } : Jvm.MethodName)) ∈ lw_all := lw_g (lw_at lw_m6 78 rfl) rfl
theorem q1419 : (Jvm.Cond.code ({ cls := "WeatherWages", name := "week", desc := "()I" } : Jvm.MethodName) prog_1_method_24_code (1 : Nat) (Option.some Jvm.ClassFile.FieldType.int)) ∈ lw_all := lw_g (lw_at lw_m6 79 rfl) rfl
theorem q1420 : (Jvm.Cond.methodLink "WeatherWages" (247 : Nat) ({ cls := "WeatherWages$Plots", name := "goWeek", desc := "(LWeatherWages$Book;)I" } : Jvm.MethodName)) ∈ lw_all := lw_g (lw_at lw_m6 80 rfl) rfl
theorem q1441 : (Jvm.Cond.instanceMethod ({ cls := "WeatherWages", name := "undo", desc := "()Z" } : Jvm.MethodName)) ∈ lw_all := lw_g (lw_at lw_m6 101 rfl) rfl
theorem q1442 : (Jvm.Cond.selects "WeatherWages" ({ cls := "WeatherWages", name := "undo", desc := "()Z" } : Jvm.MethodName) ({ cls := "WeatherWages", name := "undo", desc := "()Z" } : Jvm.MethodName)) ∈ lw_all := lw_g (lw_at lw_m6 102 rfl) rfl
theorem q1443 : (Jvm.Cond.code ({ cls := "WeatherWages", name := "undo", desc := "()Z" } : Jvm.MethodName) prog_1_method_25_code (1 : Nat) (Option.some Jvm.ClassFile.FieldType.boolean)) ∈ lw_all := lw_g (lw_at lw_m6 103 rfl) rfl
theorem q1444 : (Jvm.Cond.methodLink "WeatherWages" (251 : Nat) ({ cls := "WeatherWages", name := "exchange", desc := "(LWeatherWages$Plots;)V" } : Jvm.MethodName)) ∈ lw_all := lw_g (lw_at lw_m6 104 rfl) rfl
theorem q1445 : (Jvm.Cond.privateMethod ({ cls := "WeatherWages", name := "exchange", desc := "(LWeatherWages$Plots;)V" } : Jvm.MethodName)) ∈ lw_tbl := lw_at lw_m6 105 rfl
theorem q1446 : (Jvm.Cond.instanceMethod ({ cls := "WeatherWages", name := "exchange", desc := "(LWeatherWages$Plots;)V" } : Jvm.MethodName)) ∈ lw_all := lw_g (lw_at lw_m6 106 rfl) rfl
theorem q1447 : (Jvm.Cond.code ({ cls := "WeatherWages", name := "exchange", desc := "(LWeatherWages$Plots;)V" } : Jvm.MethodName) prog_1_method_19_code (2 : Nat) (Option.none : Option Jvm.ClassFile.FieldType)) ∈ lw_all := lw_g (lw_at lw_m6 107 rfl) rfl
theorem q1449 : (Jvm.Cond.instanceMethod ({ cls := "WeatherWages", name := "redo", desc := "()Z" } : Jvm.MethodName)) ∈ lw_all := lw_g (lw_at lw_m6 109 rfl) rfl
theorem q1450 : (Jvm.Cond.selects "WeatherWages" ({ cls := "WeatherWages", name := "redo", desc := "()Z" } : Jvm.MethodName) ({ cls := "WeatherWages", name := "redo", desc := "()Z" } : Jvm.MethodName)) ∈ lw_all := lw_g (lw_at lw_m6 110 rfl) rfl
theorem q1451 : (Jvm.Cond.code ({ cls := "WeatherWages", name := "redo", desc := "()Z" } : Jvm.MethodName) prog_1_method_26_code (1 : Nat) (Option.some Jvm.ClassFile.FieldType.boolean)) ∈ lw_all := lw_g (lw_at lw_m6 111 rfl) rfl
theorem q1453 : (Jvm.Cond.instanceMethod ({ cls := "WeatherWages", name := "best", desc := "(II)I" } : Jvm.MethodName)) ∈ lw_all := lw_g (lw_at lw_m6 113 rfl) rfl
theorem q1454 : (Jvm.Cond.selects "WeatherWages" ({ cls := "WeatherWages", name := "best", desc := "(II)I" } : Jvm.MethodName) ({ cls := "WeatherWages", name := "best", desc := "(II)I" } : Jvm.MethodName)) ∈ lw_all := lw_g (lw_at lw_m6 114 rfl) rfl
theorem q1455 : (Jvm.Cond.code ({ cls := "WeatherWages", name := "best", desc := "(II)I" } : Jvm.MethodName) prog_1_method_34_code (3 : Nat) (Option.some Jvm.ClassFile.FieldType.int)) ∈ lw_all := lw_g (lw_at lw_m6 115 rfl) rfl
theorem q1456 : (Jvm.Cond.methodLink "WeatherWages" (286 : Nat) ({ cls := "WeatherWages", name := "layBest", desc := "(LWeatherWages$Plots;IZ)V" } : Jvm.MethodName)) ∈ lw_all := lw_g (lw_at lw_m6 116 rfl) rfl
theorem q1457 : (Jvm.Cond.privateMethod ({ cls := "WeatherWages", name := "layBest", desc := "(LWeatherWages$Plots;IZ)V" } : Jvm.MethodName)) ∈ lw_tbl := lw_at lw_m6 117 rfl
theorem q1458 : (Jvm.Cond.instanceMethod ({ cls := "WeatherWages", name := "layBest", desc := "(LWeatherWages$Plots;IZ)V" } : Jvm.MethodName)) ∈ lw_all := lw_g (lw_at lw_m6 118 rfl) rfl
theorem q1459 : (Jvm.Cond.code ({ cls := "WeatherWages", name := "layBest", desc := "(LWeatherWages$Plots;IZ)V" } : Jvm.MethodName) prog_1_method_32_code (7 : Nat) (Option.none : Option Jvm.ClassFile.FieldType)) ∈ lw_all := lw_g (lw_at lw_m6 119 rfl) rfl
theorem q1460 : (Jvm.Cond.methodLink "WeatherWages" (259 : Nat) ({ cls := "WeatherWages", name := "clearRow", desc := "()V" } : Jvm.MethodName)) ∈ lw_all := lw_g (lw_at lw_m6 120 rfl) rfl
theorem q1461 : (Jvm.Cond.privateMethod ({ cls := "WeatherWages", name := "clearRow", desc := "()V" } : Jvm.MethodName)) ∈ lw_tbl := lw_at lw_m6 121 rfl
theorem q1462 : (Jvm.Cond.instanceMethod ({ cls := "WeatherWages", name := "clearRow", desc := "()V" } : Jvm.MethodName)) ∈ lw_all := lw_g (lw_at lw_m6 122 rfl) rfl
theorem q1463 : (Jvm.Cond.code ({ cls := "WeatherWages", name := "clearRow", desc := "()V" } : Jvm.MethodName) prog_1_method_28_code (2 : Nat) (Option.none : Option Jvm.ClassFile.FieldType)) ∈ lw_all := lw_g (lw_at lw_m6 123 rfl) rfl
theorem q1464 : (Jvm.Cond.methodLink "WeatherWages" (272 : Nat) ({ cls := "WeatherWages", name := "isRowOf", desc := "(LWeatherWages$Plots;I)Z" } : Jvm.MethodName)) ∈ lw_all := lw_g (lw_at lw_m6 124 rfl) rfl
theorem q1465 : (Jvm.Cond.privateMethod ({ cls := "WeatherWages", name := "isRowOf", desc := "(LWeatherWages$Plots;I)Z" } : Jvm.MethodName)) ∈ lw_tbl := lw_at lw_m6 125 rfl
theorem q1466 : (Jvm.Cond.instanceMethod ({ cls := "WeatherWages", name := "isRowOf", desc := "(LWeatherWages$Plots;I)Z" } : Jvm.MethodName)) ∈ lw_all := lw_g (lw_at lw_m6 126 rfl) rfl
theorem q1467 : (Jvm.Cond.code ({ cls := "WeatherWages", name := "isRowOf", desc := "(LWeatherWages$Plots;I)Z" } : Jvm.MethodName) prog_1_method_30_code (5 : Nat) (Option.some Jvm.ClassFile.FieldType.boolean)) ∈ lw_all := lw_g (lw_at lw_m6 127 rfl) rfl
theorem q1468 : (Jvm.Cond.methodLink "WeatherWages" (276 : Nat) ({ cls := "WeatherWages", name := "growthBy", desc := "(LWeatherWages$Plots;IZ)I" } : Jvm.MethodName)) ∈ lw_all := lw_g (lw_at lw_m6 128 rfl) rfl
theorem q1469 : (Jvm.Cond.privateMethod ({ cls := "WeatherWages", name := "growthBy", desc := "(LWeatherWages$Plots;IZ)I" } : Jvm.MethodName)) ∈ lw_tbl := lw_at lw_m6 129 rfl
theorem q1470 : (Jvm.Cond.instanceMethod ({ cls := "WeatherWages", name := "growthBy", desc := "(LWeatherWages$Plots;IZ)I" } : Jvm.MethodName)) ∈ lw_all := lw_g (lw_at lw_m6 130 rfl) rfl
theorem q1471 : (Jvm.Cond.code ({ cls := "WeatherWages", name := "growthBy", desc := "(LWeatherWages$Plots;IZ)I" } : Jvm.MethodName) prog_1_method_31_code (4 : Nat) (Option.some Jvm.ClassFile.FieldType.int)) ∈ lw_all := lw_g (lw_at lw_m6 131 rfl) rfl
theorem q1472 : (Jvm.Cond.methodLink "WeatherWages" (262 : Nat) ({ cls := "WeatherWages$Plots", name := "poursRow", desc := "(LWeatherWages$Book;I[II)LWeatherWages$Plots;" } : Jvm.MethodName)) ∈ lw_all := lw_g (lw_at lw_m6 132 rfl) rfl
theorem q1476 : (Jvm.Cond.methodLink "WeatherWages" (266 : Nat) ({ cls := "WeatherWages$Plots", name := "growths", desc := "(LWeatherWages$Book;)I" } : Jvm.MethodName)) ∈ lw_all := lw_g (lw_at lw_m6 136 rfl) rfl
theorem q1477 : (Jvm.Cond.methodLink "WeatherWages" (255 : Nat) ({ cls := "WeatherWages", name := "sum", desc := "([II)I" } : Jvm.MethodName)) ∈ lw_all := lw_g (lw_at lw_m6 137 rfl) rfl
theorem q1478 : (Jvm.Cond.static ({ cls := "WeatherWages", name := "sum", desc := "([II)I" } : Jvm.MethodName)) ∈ lw_all := lw_g (lw_at lw_m6 138 rfl) rfl
theorem q1479 : (Jvm.Cond.code ({ cls := "WeatherWages", name := "sum", desc := "([II)I" } : Jvm.MethodName) prog_1_method_27_code (2 : Nat) (Option.some Jvm.ClassFile.FieldType.int)) ∈ lw_all := lw_g (lw_at lw_m6 139 rfl) rfl
theorem q1480 : (Jvm.Cond.methodLink "WeatherWages" (283 : Nat) ({ cls := "WeatherWages", name := "nextRow", desc := "(I)Z" } : Jvm.MethodName)) ∈ lw_all := lw_g (lw_at lw_m6 140 rfl) rfl
theorem q1481 : (Jvm.Cond.privateMethod ({ cls := "WeatherWages", name := "nextRow", desc := "(I)Z" } : Jvm.MethodName)) ∈ lw_tbl := lw_at lw_m6 141 rfl
theorem q1482 : (Jvm.Cond.instanceMethod ({ cls := "WeatherWages", name := "nextRow", desc := "(I)Z" } : Jvm.MethodName)) ∈ lw_all := lw_g (lw_at lw_m6 142 rfl) rfl
theorem q1483 : (Jvm.Cond.code ({ cls := "WeatherWages", name := "nextRow", desc := "(I)Z" } : Jvm.MethodName) prog_1_method_29_code (6 : Nat) (Option.some Jvm.ClassFile.FieldType.boolean)) ∈ lw_all := lw_g (lw_at lw_m6 143 rfl) rfl
theorem q1484 : (Jvm.Cond.methodLink "WeatherWages" (290 : Nat) ({ cls := "WeatherWages", name := "putBest", desc := "(I)I" } : Jvm.MethodName)) ∈ lw_all := lw_g (lw_at lw_m6 144 rfl) rfl
theorem q1485 : (Jvm.Cond.privateMethod ({ cls := "WeatherWages", name := "putBest", desc := "(I)I" } : Jvm.MethodName)) ∈ lw_tbl := lw_at lw_m6 145 rfl
theorem q1486 : (Jvm.Cond.instanceMethod ({ cls := "WeatherWages", name := "putBest", desc := "(I)I" } : Jvm.MethodName)) ∈ lw_all := lw_g (lw_at lw_m6 146 rfl) rfl
theorem q1487 : (Jvm.Cond.code ({ cls := "WeatherWages", name := "putBest", desc := "(I)I" } : Jvm.MethodName) prog_1_method_33_code (2 : Nat) (Option.some Jvm.ClassFile.FieldType.int)) ∈ lw_all := lw_g (lw_at lw_m6 147 rfl) rfl
theorem q1489 : (Jvm.Cond.instanceMethod ({ cls := "WeatherWages", name := "good", desc := "(II)I" } : Jvm.MethodName)) ∈ lw_all := lw_g (lw_at lw_m6 149 rfl) rfl
theorem q1490 : (Jvm.Cond.selects "WeatherWages" ({ cls := "WeatherWages", name := "good", desc := "(II)I" } : Jvm.MethodName) ({ cls := "WeatherWages", name := "good", desc := "(II)I" } : Jvm.MethodName)) ∈ lw_all := lw_g (lw_at lw_m6 150 rfl) rfl
theorem q1491 : (Jvm.Cond.code ({ cls := "WeatherWages", name := "good", desc := "(II)I" } : Jvm.MethodName) prog_1_method_35_code (3 : Nat) (Option.some Jvm.ClassFile.FieldType.int)) ∈ lw_all := lw_g (lw_at lw_m6 151 rfl) rfl
theorem q1493 : (Jvm.Cond.instanceMethod ({ cls := "WeatherWages", name := "leaks", desc := "(I)I" } : Jvm.MethodName)) ∈ lw_all := lw_g (lw_at lw_m6 153 rfl) rfl
theorem q1494 : (Jvm.Cond.selects "WeatherWages" ({ cls := "WeatherWages", name := "leaks", desc := "(I)I" } : Jvm.MethodName) ({ cls := "WeatherWages", name := "leaks", desc := "(I)I" } : Jvm.MethodName)) ∈ lw_all := lw_g (lw_at lw_m6 154 rfl) rfl
theorem q1495 : (Jvm.Cond.code ({ cls := "WeatherWages", name := "leaks", desc := "(I)I" } : Jvm.MethodName) prog_1_method_36_code (2 : Nat) (Option.some Jvm.ClassFile.FieldType.int)) ∈ lw_all := lw_g (lw_at lw_m6 155 rfl) rfl
theorem q1497 : (Jvm.Cond.instanceMethod ({ cls := "WeatherWages", name := "needs", desc := "(II)I" } : Jvm.MethodName)) ∈ lw_all := lw_g (lw_at lw_m6 157 rfl) rfl
theorem q1498 : (Jvm.Cond.selects "WeatherWages" ({ cls := "WeatherWages", name := "needs", desc := "(II)I" } : Jvm.MethodName) ({ cls := "WeatherWages", name := "needs", desc := "(II)I" } : Jvm.MethodName)) ∈ lw_all := lw_g (lw_at lw_m6 158 rfl) rfl
theorem q1499 : (Jvm.Cond.code ({ cls := "WeatherWages", name := "needs", desc := "(II)I" } : Jvm.MethodName) prog_1_method_37_code (4 : Nat) (Option.some Jvm.ClassFile.FieldType.int)) ∈ lw_all := lw_g (lw_at lw_m6 159 rfl) rfl
theorem q1501 : (Jvm.Cond.instanceMethod ({ cls := "WeatherWages", name := "pool", desc := "(II)I" } : Jvm.MethodName)) ∈ lw_all := lw_g (lw_at lw_m6 161 rfl) rfl
theorem q1502 : (Jvm.Cond.selects "WeatherWages" ({ cls := "WeatherWages", name := "pool", desc := "(II)I" } : Jvm.MethodName) ({ cls := "WeatherWages", name := "pool", desc := "(II)I" } : Jvm.MethodName)) ∈ lw_all := lw_g (lw_at lw_m6 162 rfl) rfl
theorem q1503 : (Jvm.Cond.code ({ cls := "WeatherWages", name := "pool", desc := "(II)I" } : Jvm.MethodName) prog_1_method_41_code (5 : Nat) (Option.some Jvm.ClassFile.FieldType.int)) ∈ lw_all := lw_g (lw_at lw_m6 163 rfl) rfl
theorem q1504 : (Jvm.Cond.methodLink "WeatherWages" (302 : Nat) ({ cls := "WeatherWages", name := "pooled", desc := "(II)I" } : Jvm.MethodName)) ∈ lw_all := lw_g (lw_at lw_m6 164 rfl) rfl
theorem q1505 : (Jvm.Cond.privateMethod ({ cls := "WeatherWages", name := "pooled", desc := "(II)I" } : Jvm.MethodName)) ∈ lw_tbl := lw_at lw_m6 165 rfl
theorem q1506 : (Jvm.Cond.instanceMethod ({ cls := "WeatherWages", name := "pooled", desc := "(II)I" } : Jvm.MethodName)) ∈ lw_all := lw_g (lw_at lw_m6 166 rfl) rfl
theorem q1507 : (Jvm.Cond.code ({ cls := "WeatherWages", name := "pooled", desc := "(II)I" } : Jvm.MethodName) prog_1_method_40_code (10 : Nat) (Option.some Jvm.ClassFile.FieldType.int)) ∈ lw_all := lw_g (lw_at lw_m6 167 rfl) rfl
theorem q1508 : (Jvm.Cond.methodLink "WeatherWages" (293 : Nat) ({ cls := "java/lang/Math", name := "min", desc := "(II)I" } : Jvm.MethodName)) ∈ lw_all := lw_g (lw_at lw_m6 168 rfl) rfl
theorem q1509 : (Jvm.Cond.methodLink "WeatherWages" (296 : Nat) ({ cls := "WeatherWages", name := "laysRow", desc := "(III)Z" } : Jvm.MethodName)) ∈ lw_all := lw_g (lw_at lw_m6 169 rfl) rfl
theorem q1510 : (Jvm.Cond.privateMethod ({ cls := "WeatherWages", name := "laysRow", desc := "(III)Z" } : Jvm.MethodName)) ∈ lw_tbl := lw_at lw_m6 170 rfl
theorem q1511 : (Jvm.Cond.instanceMethod ({ cls := "WeatherWages", name := "laysRow", desc := "(III)Z" } : Jvm.MethodName)) ∈ lw_all := lw_g (lw_at lw_m6 171 rfl) rfl
theorem q1512 : (Jvm.Cond.code ({ cls := "WeatherWages", name := "laysRow", desc := "(III)Z" } : Jvm.MethodName) prog_1_method_38_code (7 : Nat) (Option.some Jvm.ClassFile.FieldType.boolean)) ∈ lw_all := lw_g (lw_at lw_m6 172 rfl) rfl
theorem q1513 : (Jvm.Cond.methodLink "WeatherWages" (299 : Nat) ({ cls := "WeatherWages", name := "arePooled", desc := "(II)Z" } : Jvm.MethodName)) ∈ lw_all := lw_g (lw_at lw_m6 173 rfl) rfl
theorem q1514 : (Jvm.Cond.privateMethod ({ cls := "WeatherWages", name := "arePooled", desc := "(II)Z" } : Jvm.MethodName)) ∈ lw_tbl := lw_at lw_m6 174 rfl
theorem q1515 : (Jvm.Cond.instanceMethod ({ cls := "WeatherWages", name := "arePooled", desc := "(II)Z" } : Jvm.MethodName)) ∈ lw_all := lw_g (lw_at lw_m6 175 rfl) rfl
theorem q1516 : (Jvm.Cond.code ({ cls := "WeatherWages", name := "arePooled", desc := "(II)Z" } : Jvm.MethodName) prog_1_method_39_code (5 : Nat) (Option.some Jvm.ClassFile.FieldType.boolean)) ∈ lw_all := lw_g (lw_at lw_m6 176 rfl) rfl
theorem q1518 : (Jvm.Cond.instanceMethod ({ cls := "WeatherWages", name := "joint", desc := "(II)I" } : Jvm.MethodName)) ∈ lw_all := lw_g (lw_at lw_m6 178 rfl) rfl
theorem q1519 : (Jvm.Cond.selects "WeatherWages" ({ cls := "WeatherWages", name := "joint", desc := "(II)I" } : Jvm.MethodName) ({ cls := "WeatherWages", name := "joint", desc := "(II)I" } : Jvm.MethodName)) ∈ lw_all := lw_g (lw_at lw_m6 179 rfl) rfl
theorem q1520 : (Jvm.Cond.code ({ cls := "WeatherWages", name := "joint", desc := "(II)I" } : Jvm.MethodName) prog_1_method_42_code (3 : Nat) (Option.some Jvm.ClassFile.FieldType.int)) ∈ lw_all := lw_g (lw_at lw_m6 180 rfl) rfl
theorem q1522 : (Jvm.Cond.instanceMethod ({ cls := "WeatherWages", name := "rest", desc := "()I" } : Jvm.MethodName)) ∈ lw_all := lw_g (lw_at lw_m6 182 rfl) rfl
theorem q1523 : (Jvm.Cond.selects "WeatherWages" ({ cls := "WeatherWages", name := "rest", desc := "()I" } : Jvm.MethodName) ({ cls := "WeatherWages", name := "rest", desc := "()I" } : Jvm.MethodName)) ∈ lw_all := lw_g (lw_at lw_m6 183 rfl) rfl
theorem q1524 : (Jvm.Cond.code ({ cls := "WeatherWages", name := "rest", desc := "()I" } : Jvm.MethodName) prog_1_method_45_code (3 : Nat) (Option.some Jvm.ClassFile.FieldType.int)) ∈ lw_all := lw_g (lw_at lw_m6 184 rfl) rfl
theorem q1525 : (Jvm.Cond.methodLink "WeatherWages" (308 : Nat) ({ cls := "WeatherWages", name := "goRound", desc := "()Z" } : Jvm.MethodName)) ∈ lw_all := lw_g (lw_at lw_m6 185 rfl) rfl
theorem q1526 : (Jvm.Cond.privateMethod ({ cls := "WeatherWages", name := "goRound", desc := "()Z" } : Jvm.MethodName)) ∈ lw_tbl := lw_at lw_m6 186 rfl
theorem q1527 : (Jvm.Cond.instanceMethod ({ cls := "WeatherWages", name := "goRound", desc := "()Z" } : Jvm.MethodName)) ∈ lw_all := lw_g (lw_at lw_m6 187 rfl) rfl
theorem q1528 : (Jvm.Cond.code ({ cls := "WeatherWages", name := "goRound", desc := "()Z" } : Jvm.MethodName) prog_1_method_44_code (4 : Nat) (Option.some Jvm.ClassFile.FieldType.boolean)) ∈ lw_all := lw_g (lw_at lw_m6 188 rfl) rfl
theorem q1529 : (Jvm.Cond.methodLink "WeatherWages" (305 : Nat) ({ cls := "WeatherWages", name := "layWithout", desc := "(I)V" } : Jvm.MethodName)) ∈ lw_all := lw_g (lw_at lw_m6 189 rfl) rfl
theorem q1530 : (Jvm.Cond.privateMethod ({ cls := "WeatherWages", name := "layWithout", desc := "(I)V" } : Jvm.MethodName)) ∈ lw_tbl := lw_at lw_m6 190 rfl
theorem q1531 : (Jvm.Cond.instanceMethod ({ cls := "WeatherWages", name := "layWithout", desc := "(I)V" } : Jvm.MethodName)) ∈ lw_all := lw_g (lw_at lw_m6 191 rfl) rfl
theorem q1532 : (Jvm.Cond.code ({ cls := "WeatherWages", name := "layWithout", desc := "(I)V" } : Jvm.MethodName) prog_1_method_43_code (3 : Nat) (Option.none : Option Jvm.ClassFile.FieldType)) ∈ lw_all := lw_g (lw_at lw_m6 192 rfl) rfl
theorem q1534 : (Jvm.Cond.instanceMethod ({ cls := "WeatherWages", name := "will", desc := "(II)I" } : Jvm.MethodName)) ∈ lw_all := lw_g (lw_at lw_m6 194 rfl) rfl
theorem q1535 : (Jvm.Cond.selects "WeatherWages" ({ cls := "WeatherWages", name := "will", desc := "(II)I" } : Jvm.MethodName) ({ cls := "WeatherWages", name := "will", desc := "(II)I" } : Jvm.MethodName)) ∈ lw_all := lw_g (lw_at lw_m6 195 rfl) rfl
theorem q1536 : (Jvm.Cond.code ({ cls := "WeatherWages", name := "will", desc := "(II)I" } : Jvm.MethodName) prog_1_method_46_code (4 : Nat) (Option.some Jvm.ClassFile.FieldType.int)) ∈ lw_all := lw_g (lw_at lw_m6 196 rfl) rfl
theorem q1538 : (Jvm.Cond.instanceMethod ({ cls := "WeatherWages", name := "thrive", desc := "(II)I" } : Jvm.MethodName)) ∈ lw_all := lw_g (lw_at lw_m6 198 rfl) rfl
theorem q1539 : (Jvm.Cond.selects "WeatherWages" ({ cls := "WeatherWages", name := "thrive", desc := "(II)I" } : Jvm.MethodName) ({ cls := "WeatherWages", name := "thrive", desc := "(II)I" } : Jvm.MethodName)) ∈ lw_all := lw_g (lw_at lw_m6 199 rfl) rfl
theorem q1540 : (Jvm.Cond.code ({ cls := "WeatherWages", name := "thrive", desc := "(II)I" } : Jvm.MethodName) prog_1_method_47_code (4 : Nat) (Option.some Jvm.ClassFile.FieldType.int)) ∈ lw_all := lw_g (lw_at lw_m6 200 rfl) rfl
theorem q1541 : (Jvm.Cond.methodLink "WeatherWages" (312 : Nat) ({ cls := "WeatherWages$Plots", name := "spendsRow", desc := "(LWeatherWages$Book;I[I)V" } : Jvm.MethodName)) ∈ lw_all := lw_g (lw_at lw_m6 201 rfl) rfl
theorem q1546 : (Jvm.Cond.instanceMethod ({ cls := "WeatherWages", name := "saves", desc := "(III)I" } : Jvm.MethodName)) ∈ lw_all := lw_g (lw_at lw_m6 206 rfl) rfl
theorem q1547 : (Jvm.Cond.selects "WeatherWages" ({ cls := "WeatherWages", name := "saves", desc := "(III)I" } : Jvm.MethodName) ({ cls := "WeatherWages", name := "saves", desc := "(III)I" } : Jvm.MethodName)) ∈ lw_all := lw_g (lw_at lw_m6 207 rfl) rfl
theorem q1548 : (Jvm.Cond.code ({ cls := "WeatherWages", name := "saves", desc := "(III)I" } : Jvm.MethodName) prog_1_method_48_code (5 : Nat) (Option.some Jvm.ClassFile.FieldType.int)) ∈ lw_all := lw_g (lw_at lw_m6 208 rfl) rfl
theorem q1550 : (Jvm.Cond.instanceMethod ({ cls := "WeatherWages", name := "richest", desc := "()I" } : Jvm.MethodName)) ∈ lw_all := lw_g (lw_at lw_m6 210 rfl) rfl
theorem q1551 : (Jvm.Cond.selects "WeatherWages" ({ cls := "WeatherWages", name := "richest", desc := "()I" } : Jvm.MethodName) ({ cls := "WeatherWages", name := "richest", desc := "()I" } : Jvm.MethodName)) ∈ lw_all := lw_g (lw_at lw_m6 211 rfl) rfl
theorem q1552 : (Jvm.Cond.code ({ cls := "WeatherWages", name := "richest", desc := "()I" } : Jvm.MethodName) prog_1_method_49_code (3 : Nat) (Option.some Jvm.ClassFile.FieldType.int)) ∈ lw_all := lw_g (lw_at lw_m6 212 rfl) rfl
theorem q1554 : (Jvm.Cond.instanceMethod ({ cls := "WeatherWages", name := "gulf", desc := "()I" } : Jvm.MethodName)) ∈ lw_all := lw_g (lw_at lw_m6 214 rfl) rfl
theorem q1555 : (Jvm.Cond.selects "WeatherWages" ({ cls := "WeatherWages", name := "gulf", desc := "()I" } : Jvm.MethodName) ({ cls := "WeatherWages", name := "gulf", desc := "()I" } : Jvm.MethodName)) ∈ lw_all := lw_g (lw_at lw_m6 215 rfl) rfl
theorem q1556 : (Jvm.Cond.code ({ cls := "WeatherWages", name := "gulf", desc := "()I" } : Jvm.MethodName) prog_1_method_50_code (4 : Nat) (Option.some Jvm.ClassFile.FieldType.int)) ∈ lw_all := lw_g (lw_at lw_m6 216 rfl) rfl
theorem q1558 : (Jvm.Cond.instanceMethod ({ cls := "WeatherWages", name := "most", desc := "(I)I" } : Jvm.MethodName)) ∈ lw_all := lw_g (lw_at lw_m6 218 rfl) rfl
theorem q1559 : (Jvm.Cond.selects "WeatherWages" ({ cls := "WeatherWages", name := "most", desc := "(I)I" } : Jvm.MethodName) ({ cls := "WeatherWages", name := "most", desc := "(I)I" } : Jvm.MethodName)) ∈ lw_all := lw_g (lw_at lw_m6 219 rfl) rfl
theorem q1560 : (Jvm.Cond.code ({ cls := "WeatherWages", name := "most", desc := "(I)I" } : Jvm.MethodName) prog_1_method_51_code (4 : Nat) (Option.some Jvm.ClassFile.FieldType.int)) ∈ lw_all := lw_g (lw_at lw_m6 220 rfl) rfl
theorem q1562 : (Jvm.Cond.instanceMethod ({ cls := "WeatherWages", name := "gain", desc := "(I)I" } : Jvm.MethodName)) ∈ lw_all := lw_g (lw_at lw_m6 222 rfl) rfl
theorem q1563 : (Jvm.Cond.selects "WeatherWages" ({ cls := "WeatherWages", name := "gain", desc := "(I)I" } : Jvm.MethodName) ({ cls := "WeatherWages", name := "gain", desc := "(I)I" } : Jvm.MethodName)) ∈ lw_all := lw_g (lw_at lw_m6 223 rfl) rfl
theorem q1564 : (Jvm.Cond.code ({ cls := "WeatherWages", name := "gain", desc := "(I)I" } : Jvm.MethodName) prog_1_method_54_code (4 : Nat) (Option.some Jvm.ClassFile.FieldType.int)) ∈ lw_all := lw_g (lw_at lw_m6 224 rfl) rfl
theorem q1565 : (Jvm.Cond.methodLink "WeatherWages" (325 : Nat) ({ cls := "WeatherWages", name := "tries", desc := "(III)V" } : Jvm.MethodName)) ∈ lw_all := lw_g (lw_at lw_m6 225 rfl) rfl
theorem q1566 : (Jvm.Cond.privateMethod ({ cls := "WeatherWages", name := "tries", desc := "(III)V" } : Jvm.MethodName)) ∈ lw_tbl := lw_at lw_m6 226 rfl
theorem q1567 : (Jvm.Cond.instanceMethod ({ cls := "WeatherWages", name := "tries", desc := "(III)V" } : Jvm.MethodName)) ∈ lw_all := lw_g (lw_at lw_m6 227 rfl) rfl
theorem q1568 : (Jvm.Cond.code ({ cls := "WeatherWages", name := "tries", desc := "(III)V" } : Jvm.MethodName) prog_1_method_52_code (9 : Nat) (Option.none : Option Jvm.ClassFile.FieldType)) ∈ lw_all := lw_g (lw_at lw_m6 228 rfl) rfl
theorem q1569 : (Jvm.Cond.methodLink "WeatherWages" (328 : Nat) ({ cls := "WeatherWages", name := "common", desc := "(II)I" } : Jvm.MethodName)) ∈ lw_all := lw_g (lw_at lw_m6 229 rfl) rfl
theorem q1570 : (Jvm.Cond.static ({ cls := "WeatherWages", name := "common", desc := "(II)I" } : Jvm.MethodName)) ∈ lw_all := lw_g (lw_at lw_m6 230 rfl) rfl
theorem q1571 : (Jvm.Cond.code ({ cls := "WeatherWages", name := "common", desc := "(II)I" } : Jvm.MethodName) prog_1_method_53_code (5 : Nat) (Option.some Jvm.ClassFile.FieldType.int)) ∈ lw_all := lw_g (lw_at lw_m6 231 rfl) rfl
theorem q1573 : (Jvm.Cond.instanceMethod ({ cls := "WeatherWages", name := "lies", desc := "(I)I" } : Jvm.MethodName)) ∈ lw_all := lw_g (lw_at lw_m6 233 rfl) rfl
theorem q1574 : (Jvm.Cond.selects "WeatherWages" ({ cls := "WeatherWages", name := "lies", desc := "(I)I" } : Jvm.MethodName) ({ cls := "WeatherWages", name := "lies", desc := "(I)I" } : Jvm.MethodName)) ∈ lw_all := lw_g (lw_at lw_m6 234 rfl) rfl
theorem q1575 : (Jvm.Cond.code ({ cls := "WeatherWages", name := "lies", desc := "(I)I" } : Jvm.MethodName) prog_1_method_55_code (2 : Nat) (Option.some Jvm.ClassFile.FieldType.int)) ∈ lw_all := lw_g (lw_at lw_m6 235 rfl) rfl
theorem q1577 : (Jvm.Cond.instanceMethod ({ cls := "WeatherWages", name := "least", desc := "(IIZ)I" } : Jvm.MethodName)) ∈ lw_all := lw_g (lw_at lw_m6 237 rfl) rfl
theorem q1578 : (Jvm.Cond.selects "WeatherWages" ({ cls := "WeatherWages", name := "least", desc := "(IIZ)I" } : Jvm.MethodName) ({ cls := "WeatherWages", name := "least", desc := "(IIZ)I" } : Jvm.MethodName)) ∈ lw_all := lw_g (lw_at lw_m6 238 rfl) rfl
theorem q1579 : (Jvm.Cond.code ({ cls := "WeatherWages", name := "least", desc := "(IIZ)I" } : Jvm.MethodName) prog_1_method_60_code (4 : Nat) (Option.some Jvm.ClassFile.FieldType.int)) ∈ lw_all := lw_g (lw_at lw_m6 239 rfl) rfl
theorem q1580 : (Jvm.Cond.methodLink "WeatherWages" (344 : Nat) ({ cls := "WeatherWages", name := "isFirst", desc := "(I)Z" } : Jvm.MethodName)) ∈ lw_all := lw_g (lw_at lw_m7 0 rfl) rfl
theorem q1581 : (Jvm.Cond.privateMethod ({ cls := "WeatherWages", name := "isFirst", desc := "(I)Z" } : Jvm.MethodName)) ∈ lw_tbl := lw_at lw_m7 1 rfl
theorem q1582 : (Jvm.Cond.instanceMethod ({ cls := "WeatherWages", name := "isFirst", desc := "(I)Z" } : Jvm.MethodName)) ∈ lw_all := lw_g (lw_at lw_m7 2 rfl) rfl
theorem q1583 : (Jvm.Cond.code ({ cls := "WeatherWages", name := "isFirst", desc := "(I)Z" } : Jvm.MethodName) prog_1_method_57_code (2 : Nat) (Option.some Jvm.ClassFile.FieldType.boolean)) ∈ lw_all := lw_g (lw_at lw_m7 3 rfl) rfl
theorem q1584 : (Jvm.Cond.methodLink "WeatherWages" (334 : Nat) ({ cls := "WeatherWages", name := "firstMen", desc := "()I" } : Jvm.MethodName)) ∈ lw_all := lw_g (lw_at lw_m7 4 rfl) rfl
theorem q1585 : (Jvm.Cond.privateMethod ({ cls := "WeatherWages", name := "firstMen", desc := "()I" } : Jvm.MethodName)) ∈ lw_tbl := lw_at lw_m7 5 rfl
theorem q1586 : (Jvm.Cond.instanceMethod ({ cls := "WeatherWages", name := "firstMen", desc := "()I" } : Jvm.MethodName)) ∈ lw_all := lw_g (lw_at lw_m7 6 rfl) rfl
theorem q1587 : (Jvm.Cond.code ({ cls := "WeatherWages", name := "firstMen", desc := "()I" } : Jvm.MethodName) prog_1_method_56_code (1 : Nat) (Option.some Jvm.ClassFile.FieldType.int)) ∈ lw_all := lw_g (lw_at lw_m7 7 rfl) rfl
theorem q1588 : (Jvm.Cond.classLink "WeatherWages" (347 : Nat) "WeatherWages$Sight") ∈ lw_all := lw_g (lw_at lw_m7 8 rfl) rfl
theorem q1590 : (Jvm.Cond.methodLink "WeatherWages" (349 : Nat) ({ cls := "WeatherWages$Sight", name := "<init>", desc := "(LWeatherWages;IIIZ)V" } : Jvm.MethodName)) ∈ lw_all := lw_g (lw_at lw_m7 10 rfl) rfl
theorem q1616 : (Jvm.Cond.methodLink "WeatherWages" (352 : Nat) ({ cls := "WeatherWages", name := "tell", desc := "(LWeatherWages$Sight;)I" } : Jvm.MethodName)) ∈ lw_all := lw_g (lw_at lw_m7 36 rfl) rfl
theorem q1617 : (Jvm.Cond.privateMethod ({ cls := "WeatherWages", name := "tell", desc := "(LWeatherWages$Sight;)I" } : Jvm.MethodName)) ∈ lw_tbl := lw_at lw_m7 37 rfl
theorem q1618 : (Jvm.Cond.instanceMethod ({ cls := "WeatherWages", name := "tell", desc := "(LWeatherWages$Sight;)I" } : Jvm.MethodName)) ∈ lw_all := lw_g (lw_at lw_m7 38 rfl) rfl
theorem q1619 : (Jvm.Cond.code ({ cls := "WeatherWages", name := "tell", desc := "(LWeatherWages$Sight;)I" } : Jvm.MethodName) prog_1_method_59_code (2 : Nat) (Option.some Jvm.ClassFile.FieldType.int)) ∈ lw_all := lw_g (lw_at lw_m7 39 rfl) rfl
theorem q1620 : (Jvm.Cond.methodLink "WeatherWages" (340 : Nat) ({ cls := "java/util/ArrayList", name := "add", desc := "(Ljava/lang/Object;)Z" } : Jvm.MethodName)) ∈ lw_all := lw_g (lw_at lw_m7 40 rfl) rfl
theorem q1622 : (Jvm.Cond.instanceMethod ({ cls := "WeatherWages", name := "more", desc := "(IIZ)I" } : Jvm.MethodName)) ∈ lw_all := lw_g (lw_at lw_m7 42 rfl) rfl
theorem q1623 : (Jvm.Cond.selects "WeatherWages" ({ cls := "WeatherWages", name := "more", desc := "(IIZ)I" } : Jvm.MethodName) ({ cls := "WeatherWages", name := "more", desc := "(IIZ)I" } : Jvm.MethodName)) ∈ lw_all := lw_g (lw_at lw_m7 43 rfl) rfl
theorem q1624 : (Jvm.Cond.code ({ cls := "WeatherWages", name := "more", desc := "(IIZ)I" } : Jvm.MethodName) prog_1_method_61_code (4 : Nat) (Option.some Jvm.ClassFile.FieldType.int)) ∈ lw_all := lw_g (lw_at lw_m7 44 rfl) rfl
theorem q1626 : (Jvm.Cond.instanceMethod ({ cls := "WeatherWages", name := "untell", desc := "(I)Z" } : Jvm.MethodName)) ∈ lw_all := lw_g (lw_at lw_m7 46 rfl) rfl
theorem q1627 : (Jvm.Cond.selects "WeatherWages" ({ cls := "WeatherWages", name := "untell", desc := "(I)Z" } : Jvm.MethodName) ({ cls := "WeatherWages", name := "untell", desc := "(I)Z" } : Jvm.MethodName)) ∈ lw_all := lw_g (lw_at lw_m7 47 rfl) rfl
theorem q1628 : (Jvm.Cond.code ({ cls := "WeatherWages", name := "untell", desc := "(I)Z" } : Jvm.MethodName) prog_1_method_62_code (2 : Nat) (Option.some Jvm.ClassFile.FieldType.boolean)) ∈ lw_all := lw_g (lw_at lw_m7 48 rfl) rfl
theorem q1629 : (Jvm.Cond.methodLink "WeatherWages" (356 : Nat) ({ cls := "WeatherWages$Sight", name := "untell", desc := "()Z" } : Jvm.MethodName)) ∈ lw_all := lw_g (lw_at lw_m7 49 rfl) rfl
theorem q1634 : (Jvm.Cond.instanceMethod ({ cls := "WeatherWages", name := "later", desc := "(I)I" } : Jvm.MethodName)) ∈ lw_all := lw_g (lw_at lw_m7 54 rfl) rfl
theorem q1635 : (Jvm.Cond.selects "WeatherWages" ({ cls := "WeatherWages", name := "later", desc := "(I)I" } : Jvm.MethodName) ({ cls := "WeatherWages", name := "later", desc := "(I)I" } : Jvm.MethodName)) ∈ lw_all := lw_g (lw_at lw_m7 55 rfl) rfl
theorem q1636 : (Jvm.Cond.code ({ cls := "WeatherWages", name := "later", desc := "(I)I" } : Jvm.MethodName) prog_1_method_63_code (2 : Nat) (Option.some Jvm.ClassFile.FieldType.int)) ∈ lw_all := lw_g (lw_at lw_m7 56 rfl) rfl
theorem q1637 : (Jvm.Cond.constant "WeatherWages" (362 : Nat) (100000 : Int32)) ∈ lw_all := lw_g (lw_at lw_m7 57 rfl) rfl
theorem q1639 : (Jvm.Cond.instanceMethod ({ cls := "WeatherWages", name := "orders", desc := "(I)I" } : Jvm.MethodName)) ∈ lw_all := lw_g (lw_at lw_m7 59 rfl) rfl
theorem q1640 : (Jvm.Cond.selects "WeatherWages" ({ cls := "WeatherWages", name := "orders", desc := "(I)I" } : Jvm.MethodName) ({ cls := "WeatherWages", name := "orders", desc := "(I)I" } : Jvm.MethodName)) ∈ lw_all := lw_g (lw_at lw_m7 60 rfl) rfl
theorem q1641 : (Jvm.Cond.code ({ cls := "WeatherWages", name := "orders", desc := "(I)I" } : Jvm.MethodName) prog_1_method_66_code (2 : Nat) (Option.some Jvm.ClassFile.FieldType.int)) ∈ lw_all := lw_g (lw_at lw_m7 61 rfl) rfl
theorem q1642 : (Jvm.Cond.methodLink "WeatherWages" (373 : Nat) ({ cls := "WeatherWages", name := "layOrders", desc := "(I)I" } : Jvm.MethodName)) ∈ lw_all := lw_g (lw_at lw_m7 62 rfl) rfl
theorem q1643 : (Jvm.Cond.privateMethod ({ cls := "WeatherWages", name := "layOrders", desc := "(I)I" } : Jvm.MethodName)) ∈ lw_tbl := lw_at lw_m7 63 rfl
theorem q1644 : (Jvm.Cond.instanceMethod ({ cls := "WeatherWages", name := "layOrders", desc := "(I)I" } : Jvm.MethodName)) ∈ lw_all := lw_g (lw_at lw_m7 64 rfl) rfl
theorem q1645 : (Jvm.Cond.code ({ cls := "WeatherWages", name := "layOrders", desc := "(I)I" } : Jvm.MethodName) prog_1_method_65_code (7 : Nat) (Option.some Jvm.ClassFile.FieldType.int)) ∈ lw_all := lw_g (lw_at lw_m7 65 rfl) rfl
theorem q1646 : (Jvm.Cond.methodLink "WeatherWages" (369 : Nat) ({ cls := "WeatherWages", name := "giveFrom", desc := "(III)I" } : Jvm.MethodName)) ∈ lw_all := lw_g (lw_at lw_m7 66 rfl) rfl
theorem q1647 : (Jvm.Cond.privateMethod ({ cls := "WeatherWages", name := "giveFrom", desc := "(III)I" } : Jvm.MethodName)) ∈ lw_tbl := lw_at lw_m7 67 rfl
theorem q1648 : (Jvm.Cond.instanceMethod ({ cls := "WeatherWages", name := "giveFrom", desc := "(III)I" } : Jvm.MethodName)) ∈ lw_all := lw_g (lw_at lw_m7 68 rfl) rfl
theorem q1649 : (Jvm.Cond.code ({ cls := "WeatherWages", name := "giveFrom", desc := "(III)I" } : Jvm.MethodName) prog_1_method_64_code (6 : Nat) (Option.some Jvm.ClassFile.FieldType.int)) ∈ lw_all := lw_g (lw_at lw_m7 69 rfl) rfl
theorem q1650 : (Jvm.Cond.methodLink "WeatherWages" (363 : Nat) ({ cls := "WeatherWages$Sight", name := "isKnown", desc := "(I)Z" } : Jvm.MethodName)) ∈ lw_all := lw_g (lw_at lw_m7 70 rfl) rfl
theorem q1654 : (Jvm.Cond.methodLink "WeatherWages" (366 : Nat) ({ cls := "WeatherWages$Sight", name := "isSo", desc := "()Z" } : Jvm.MethodName)) ∈ lw_all := lw_g (lw_at lw_m7 74 rfl) rfl
theorem q1659 : (Jvm.Cond.privateMethod ({ cls := "WeatherWages", name := "bookOf", desc := "(I)I" } : Jvm.MethodName)) ∈ lw_tbl := lw_at lw_m7 79 rfl
theorem q1660 : (Jvm.Cond.instanceMethod ({ cls := "WeatherWages", name := "bookOf", desc := "(I)I" } : Jvm.MethodName)) ∈ lw_all := lw_g (lw_at lw_m7 80 rfl) rfl
theorem q1661 : (Jvm.Cond.code ({ cls := "WeatherWages", name := "bookOf", desc := "(I)I" } : Jvm.MethodName) prog_1_method_58_code (2 : Nat) (Option.some Jvm.ClassFile.FieldType.int)) ∈ lw_all := lw_g (lw_at lw_m7 81 rfl) rfl
theorem q1663 : (Jvm.Cond.instanceMethod ({ cls := "WeatherWages", name := "sure", desc := "(II)I" } : Jvm.MethodName)) ∈ lw_all := lw_g (lw_at lw_m7 83 rfl) rfl
theorem q1664 : (Jvm.Cond.selects "WeatherWages" ({ cls := "WeatherWages", name := "sure", desc := "(II)I" } : Jvm.MethodName) ({ cls := "WeatherWages", name := "sure", desc := "(II)I" } : Jvm.MethodName)) ∈ lw_all := lw_g (lw_at lw_m7 84 rfl) rfl
theorem q1665 : (Jvm.Cond.code ({ cls := "WeatherWages", name := "sure", desc := "(II)I" } : Jvm.MethodName) prog_1_method_67_code (6 : Nat) (Option.some Jvm.ClassFile.FieldType.int)) ∈ lw_all := lw_g (lw_at lw_m7 85 rfl) rfl
theorem q1667 : (Jvm.Cond.instanceMethod ({ cls := "WeatherWages", name := "ask", desc := "(II)I" } : Jvm.MethodName)) ∈ lw_all := lw_g (lw_at lw_m7 87 rfl) rfl
theorem q1668 : (Jvm.Cond.selects "WeatherWages" ({ cls := "WeatherWages", name := "ask", desc := "(II)I" } : Jvm.MethodName) ({ cls := "WeatherWages", name := "ask", desc := "(II)I" } : Jvm.MethodName)) ∈ lw_all := lw_g (lw_at lw_m7 88 rfl) rfl
theorem q1669 : (Jvm.Cond.code ({ cls := "WeatherWages", name := "ask", desc := "(II)I" } : Jvm.MethodName) prog_1_method_68_code (12 : Nat) (Option.some Jvm.ClassFile.FieldType.int)) ∈ lw_all := lw_g (lw_at lw_m7 89 rfl) rfl
theorem q1671 : (Jvm.Cond.instanceMethod ({ cls := "WeatherWages", name := "image", desc := "(I)I" } : Jvm.MethodName)) ∈ lw_all := lw_g (lw_at lw_m7 91 rfl) rfl
theorem q1672 : (Jvm.Cond.selects "WeatherWages" ({ cls := "WeatherWages", name := "image", desc := "(I)I" } : Jvm.MethodName) ({ cls := "WeatherWages", name := "image", desc := "(I)I" } : Jvm.MethodName)) ∈ lw_all := lw_g (lw_at lw_m7 92 rfl) rfl
theorem q1673 : (Jvm.Cond.code ({ cls := "WeatherWages", name := "image", desc := "(I)I" } : Jvm.MethodName) prog_1_method_70_code (2 : Nat) (Option.some Jvm.ClassFile.FieldType.int)) ∈ lw_all := lw_g (lw_at lw_m7 93 rfl) rfl
theorem q1674 : (Jvm.Cond.methodLink "WeatherWages" (376 : Nat) ({ cls := "WeatherWages", name := "isBox", desc := "(I)Z" } : Jvm.MethodName)) ∈ lw_all := lw_g (lw_at lw_m7 94 rfl) rfl
theorem q1675 : (Jvm.Cond.static ({ cls := "WeatherWages", name := "isBox", desc := "(I)Z" } : Jvm.MethodName)) ∈ lw_all := lw_g (lw_at lw_m7 95 rfl) rfl
theorem q1676 : (Jvm.Cond.code ({ cls := "WeatherWages", name := "isBox", desc := "(I)Z" } : Jvm.MethodName) prog_1_method_69_code (1 : Nat) (Option.some Jvm.ClassFile.FieldType.boolean)) ∈ lw_all := lw_g (lw_at lw_m7 96 rfl) rfl
theorem q1678 : (Jvm.Cond.instanceMethod ({ cls := "WeatherWages", name := "back", desc := "(I)I" } : Jvm.MethodName)) ∈ lw_all := lw_g (lw_at lw_m7 98 rfl) rfl
theorem q1679 : (Jvm.Cond.selects "WeatherWages" ({ cls := "WeatherWages", name := "back", desc := "(I)I" } : Jvm.MethodName) ({ cls := "WeatherWages", name := "back", desc := "(I)I" } : Jvm.MethodName)) ∈ lw_all := lw_g (lw_at lw_m7 99 rfl) rfl
theorem q1680 : (Jvm.Cond.code ({ cls := "WeatherWages", name := "back", desc := "(I)I" } : Jvm.MethodName) prog_1_method_71_code (2 : Nat) (Option.some Jvm.ClassFile.FieldType.int)) ∈ lw_all := lw_g (lw_at lw_m7 100 rfl) rfl
theorem q1682 : (Jvm.Cond.instanceMethod ({ cls := "WeatherWages", name := "about", desc := "(I)I" } : Jvm.MethodName)) ∈ lw_all := lw_g (lw_at lw_m7 102 rfl) rfl
theorem q1683 : (Jvm.Cond.selects "WeatherWages" ({ cls := "WeatherWages", name := "about", desc := "(I)I" } : Jvm.MethodName) ({ cls := "WeatherWages", name := "about", desc := "(I)I" } : Jvm.MethodName)) ∈ lw_all := lw_g (lw_at lw_m7 103 rfl) rfl
theorem q1684 : (Jvm.Cond.code ({ cls := "WeatherWages", name := "about", desc := "(I)I" } : Jvm.MethodName) prog_1_method_72_code (2 : Nat) (Option.some Jvm.ClassFile.FieldType.int)) ∈ lw_all := lw_g (lw_at lw_m7 104 rfl) rfl
theorem q2460 : (Jvm.Cond.castable "WeatherWages" "java/lang/Object") ∈ lw_tbl := lw_at lw_m10 160 rfl
theorem in_X0 : ∀ w ∈ wsX00, w ∈ lw_all := lw_in wsX00 [390, 392, 394, 396, 398, 400, 402, 404, 406, 408, 410, 412, 414, 416, 418, 420, 422, 424, 426, 428, 430, 432, 434, 436, 438, 440, 442, 444, 446, 448] (by decide +kernel) (by decide +kernel)

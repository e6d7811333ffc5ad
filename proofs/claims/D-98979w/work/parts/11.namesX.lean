/-! WeatherWages$Book -/
set_option maxRecDepth 100000
def RX1 : String := "WeatherWages$Book"
def TX1 : u_T := fun k => match k with
  | 0 => ("WeatherWages$Book", "kinds", "Ljava/util/ArrayList;", true)
  | 1 => ("WeatherWages$Book", "men", "Ljava/util/ArrayList;", true)
  | 2 => ("WeatherWages$Book", "rates", "Ljava/util/ArrayList;", true)
  | 3 => ("WeatherWages$Book", "books", "[I", true)
  | 4 => ("WeatherWages$Book", "ask", "LWeatherWages$Ask;", true)
  | 5 => ("WeatherWages$Book", "grow", "LWeatherWages$Node;", false)
  | 6 => ("WeatherWages$Book", "bookMany", "I", false)
  | 7 => ("WeatherWages$Book", "hours", "I", false)
  | 8 => ("WeatherWages$Book", "seed", "I", false)
  | _ => ("WeatherWages$Book", "units", "I", false)
def tyX1 : Nat → FieldType := fun k => match k with
  | 0 => .object "java/util/ArrayList"
  | 1 => .object "java/util/ArrayList"
  | 2 => .object "java/util/ArrayList"
  | 3 => .array .int
  | 4 => .object "WeatherWages$Ask"
  | 5 => .object "WeatherWages$Node"
  | 6 => .int
  | 7 => .int
  | 8 => .int
  | _ => .int
abbrev wsX10 : List Cond := u_ws RX1 TX1 10
theorem nmX1 : ∀ a, a < 10 → ∀ b, b < 10 → a ≠ b → (TX1 a).2.1 ≠ (TX1 b).2.1 := by decide +kernel
theorem tyX1_ok : ∀ k, k < 10 → parseFieldDescriptor (TX1 k).2.2.1 = some (tyX1 k) := by decide +kernel
abbrev cX1_init : ByteArray := prog_10_method_1_code
def yX1_init : MethodName := ⟨RX1, "<init>", "()V"⟩
def dkwX1_init_2 : List UInt8 := [181, 0, 26, 42, 187, 0, 30, 89, 183, 0, 32, 181, 0, 33, 42, 16, 6, 181, 0, 37, 177]
abbrev dktX1_init_2 : List UInt8 := dkwX1_init_2 ++ []
def dkwX1_init_1 : List UInt8 := [183, 0, 11, 181, 0, 20, 42, 187, 0, 9, 89, 5, 183, 0, 11, 181, 0, 23, 42, 8, 188, 10]
abbrev dktX1_init_1 : List UInt8 := dkwX1_init_1 ++ dktX1_init_2
def dkwX1_init_0 : List UInt8 := [42, 183, 0, 3, 42, 187, 0, 9, 89, 5, 183, 0, 11, 181, 0, 14, 42, 187, 0, 9, 89, 5]
abbrev dktX1_init_0 : List UInt8 := dkwX1_init_0 ++ dktX1_init_1
theorem dksX1_init_0 : cX1_init.data.toList.drop 0 = dktX1_init_0 := by decide +kernel
theorem dksX1_init_1 : cX1_init.data.toList.drop 22 = dktX1_init_1 := dk_seg dksX1_init_0 22 rfl rfl
theorem dksX1_init_2 : cX1_init.data.toList.drop 44 = dktX1_init_2 := dk_seg dksX1_init_1 22 rfl rfl
theorem dX1_init_0 : decode cX1_init 0 = .ok (.aload_n 0, 1) := dk_42 (dk_at dksX1_init_0 0 rfl rfl)
theorem dX1_init_1 : decode cX1_init 1 = .ok (.invokespecial 3, 3) := dk_183 0 3 (dk_at dksX1_init_0 1 rfl rfl)
theorem dX1_init_4 : decode cX1_init 4 = .ok (.aload_n 0, 1) := dk_42 (dk_at dksX1_init_0 4 rfl rfl)
theorem dX1_init_5 : decode cX1_init 5 = .ok (.new 9, 3) := dk_187 0 9 (dk_at dksX1_init_0 5 rfl rfl)
theorem dX1_init_8 : decode cX1_init 8 = .ok (.dup, 1) := dk_89 (dk_at dksX1_init_0 8 rfl rfl)
theorem dX1_init_9 : decode cX1_init 9 = .ok (.iconst 2, 1) := dk_5 (dk_at dksX1_init_0 9 rfl rfl)
theorem dX1_init_10 : decode cX1_init 10 = .ok (.invokespecial 11, 3) := dk_183 0 11 (dk_at dksX1_init_0 10 rfl rfl)
theorem dX1_init_13 : decode cX1_init 13 = .ok (.putfield 14, 3) := dk_181 0 14 (dk_at dksX1_init_0 13 rfl rfl)
theorem dX1_init_16 : decode cX1_init 16 = .ok (.aload_n 0, 1) := dk_42 (dk_at dksX1_init_0 16 rfl rfl)
theorem dX1_init_17 : decode cX1_init 17 = .ok (.new 9, 3) := dk_187 0 9 (dk_at dksX1_init_0 17 rfl rfl)
theorem dX1_init_20 : decode cX1_init 20 = .ok (.dup, 1) := dk_89 (dk_at dksX1_init_0 20 rfl rfl)
theorem dX1_init_21 : decode cX1_init 21 = .ok (.iconst 2, 1) := dk_5 (dk_at dksX1_init_0 21 rfl rfl)
theorem dX1_init_22 : decode cX1_init 22 = .ok (.invokespecial 11, 3) := dk_183 0 11 (dk_at dksX1_init_1 0 rfl rfl)
theorem dX1_init_25 : decode cX1_init 25 = .ok (.putfield 20, 3) := dk_181 0 20 (dk_at dksX1_init_1 3 rfl rfl)
theorem dX1_init_28 : decode cX1_init 28 = .ok (.aload_n 0, 1) := dk_42 (dk_at dksX1_init_1 6 rfl rfl)
theorem dX1_init_29 : decode cX1_init 29 = .ok (.new 9, 3) := dk_187 0 9 (dk_at dksX1_init_1 7 rfl rfl)
theorem dX1_init_32 : decode cX1_init 32 = .ok (.dup, 1) := dk_89 (dk_at dksX1_init_1 10 rfl rfl)
theorem dX1_init_33 : decode cX1_init 33 = .ok (.iconst 2, 1) := dk_5 (dk_at dksX1_init_1 11 rfl rfl)
theorem dX1_init_34 : decode cX1_init 34 = .ok (.invokespecial 11, 3) := dk_183 0 11 (dk_at dksX1_init_1 12 rfl rfl)
theorem dX1_init_37 : decode cX1_init 37 = .ok (.putfield 23, 3) := dk_181 0 23 (dk_at dksX1_init_1 15 rfl rfl)
theorem dX1_init_40 : decode cX1_init 40 = .ok (.aload_n 0, 1) := dk_42 (dk_at dksX1_init_1 18 rfl rfl)
theorem dX1_init_41 : decode cX1_init 41 = .ok (.iconst 5, 1) := dk_8 (dk_at dksX1_init_1 19 rfl rfl)
theorem dX1_init_42 : decode cX1_init 42 = .ok (.newarray .int, 2) := dk_188_10 (dk_at dksX1_init_1 20 rfl rfl)
theorem dX1_init_44 : decode cX1_init 44 = .ok (.putfield 26, 3) := dk_181 0 26 (dk_at dksX1_init_2 0 rfl rfl)
theorem dX1_init_47 : decode cX1_init 47 = .ok (.aload_n 0, 1) := dk_42 (dk_at dksX1_init_2 3 rfl rfl)
theorem dX1_init_48 : decode cX1_init 48 = .ok (.new 30, 3) := dk_187 0 30 (dk_at dksX1_init_2 4 rfl rfl)
theorem dX1_init_51 : decode cX1_init 51 = .ok (.dup, 1) := dk_89 (dk_at dksX1_init_2 7 rfl rfl)
theorem dX1_init_52 : decode cX1_init 52 = .ok (.invokespecial 32, 3) := dk_183 0 32 (dk_at dksX1_init_2 8 rfl rfl)
theorem dX1_init_55 : decode cX1_init 55 = .ok (.putfield 33, 3) := dk_181 0 33 (dk_at dksX1_init_2 11 rfl rfl)
theorem dX1_init_58 : decode cX1_init 58 = .ok (.aload_n 0, 1) := dk_42 (dk_at dksX1_init_2 14 rfl rfl)
theorem dX1_init_59 : decode cX1_init 59 = .ok (.bipush 6, 2) := dk_16 6 (dk_at dksX1_init_2 15 rfl rfl)
theorem dX1_init_61 : decode cX1_init 61 = .ok (.putfield 37, 3) := dk_181 0 37 (dk_at dksX1_init_2 17 rfl rfl)
theorem dX1_init_64 : decode cX1_init 64 = .ok (.return_, 1) := dk_177 (dk_at dksX1_init_2 20 rfl rfl)
abbrev cX1_kind : ByteArray := prog_10_method_2_code
def yX1_kind : MethodName := ⟨RX1, "kind", "(Ljava/lang/String;)I"⟩
def dkwX1_kind_1 : List UInt8 := [192, 0, 49, 43, 182, 0, 51, 153, 0, 7, 29, 167, 0, 4, 28, 61, 132, 3, 1, 167, 255, 218, 28, 172]
abbrev dktX1_kind_1 : List UInt8 := dkwX1_kind_1 ++ []
def dkwX1_kind_0 : List UInt8 := [2, 61, 3, 62, 29, 42, 180, 0, 14, 182, 0, 41, 162, 0, 33, 42, 180, 0, 14, 29, 182, 0, 45]
abbrev dktX1_kind_0 : List UInt8 := dkwX1_kind_0 ++ dktX1_kind_1
theorem dksX1_kind_0 : cX1_kind.data.toList.drop 0 = dktX1_kind_0 := by decide +kernel
theorem dksX1_kind_1 : cX1_kind.data.toList.drop 23 = dktX1_kind_1 := dk_seg dksX1_kind_0 23 rfl rfl
theorem dX1_kind_0 : decode cX1_kind 0 = .ok (.iconst (-1), 1) := dk_2 (dk_at dksX1_kind_0 0 rfl rfl)
theorem dX1_kind_1 : decode cX1_kind 1 = .ok (.istore_n 2, 1) := dk_61 (dk_at dksX1_kind_0 1 rfl rfl)
theorem dX1_kind_2 : decode cX1_kind 2 = .ok (.iconst 0, 1) := dk_3 (dk_at dksX1_kind_0 2 rfl rfl)
theorem dX1_kind_3 : decode cX1_kind 3 = .ok (.istore_n 3, 1) := dk_62 (dk_at dksX1_kind_0 3 rfl rfl)
theorem dX1_kind_4 : decode cX1_kind 4 = .ok (.iload_n 3, 1) := dk_29 (dk_at dksX1_kind_0 4 rfl rfl)
theorem dX1_kind_5 : decode cX1_kind 5 = .ok (.aload_n 0, 1) := dk_42 (dk_at dksX1_kind_0 5 rfl rfl)
theorem dX1_kind_6 : decode cX1_kind 6 = .ok (.getfield 14, 3) := dk_180 0 14 (dk_at dksX1_kind_0 6 rfl rfl)
theorem dX1_kind_9 : decode cX1_kind 9 = .ok (.invokevirtual 41, 3) := dk_182 0 41 (dk_at dksX1_kind_0 9 rfl rfl)
theorem dX1_kind_12 : decode cX1_kind 12 = .ok (.if_icmp .ge 33, 3) := dk_162 0 33 (dk_at dksX1_kind_0 12 rfl rfl)
theorem dX1_kind_15 : decode cX1_kind 15 = .ok (.aload_n 0, 1) := dk_42 (dk_at dksX1_kind_0 15 rfl rfl)
theorem dX1_kind_16 : decode cX1_kind 16 = .ok (.getfield 14, 3) := dk_180 0 14 (dk_at dksX1_kind_0 16 rfl rfl)
theorem dX1_kind_19 : decode cX1_kind 19 = .ok (.iload_n 3, 1) := dk_29 (dk_at dksX1_kind_0 19 rfl rfl)
theorem dX1_kind_20 : decode cX1_kind 20 = .ok (.invokevirtual 45, 3) := dk_182 0 45 (dk_at dksX1_kind_0 20 rfl rfl)
theorem dX1_kind_23 : decode cX1_kind 23 = .ok (.checkcast 49, 3) := dk_192 0 49 (dk_at dksX1_kind_1 0 rfl rfl)
theorem dX1_kind_26 : decode cX1_kind 26 = .ok (.aload_n 1, 1) := dk_43 (dk_at dksX1_kind_1 3 rfl rfl)
theorem dX1_kind_27 : decode cX1_kind 27 = .ok (.invokevirtual 51, 3) := dk_182 0 51 (dk_at dksX1_kind_1 4 rfl rfl)
theorem dX1_kind_30 : decode cX1_kind 30 = .ok (.ifCond .eq 7, 3) := dk_153 0 7 (dk_at dksX1_kind_1 7 rfl rfl)
theorem dX1_kind_33 : decode cX1_kind 33 = .ok (.iload_n 3, 1) := dk_29 (dk_at dksX1_kind_1 10 rfl rfl)
theorem dX1_kind_34 : decode cX1_kind 34 = .ok (.goto 4, 3) := dk_167 0 4 (dk_at dksX1_kind_1 11 rfl rfl)
theorem dX1_kind_37 : decode cX1_kind 37 = .ok (.iload_n 2, 1) := dk_28 (dk_at dksX1_kind_1 14 rfl rfl)
theorem dX1_kind_38 : decode cX1_kind 38 = .ok (.istore_n 2, 1) := dk_61 (dk_at dksX1_kind_1 15 rfl rfl)
theorem dX1_kind_39 : decode cX1_kind 39 = .ok (.iinc 3 1, 3) := dk_132 3 1 (dk_at dksX1_kind_1 16 rfl rfl)
theorem dX1_kind_42 : decode cX1_kind 42 = .ok (.goto (-38), 3) := dk_167 255 218 (dk_at dksX1_kind_1 19 rfl rfl)
theorem dX1_kind_45 : decode cX1_kind 45 = .ok (.iload_n 2, 1) := dk_28 (dk_at dksX1_kind_1 22 rfl rfl)
theorem dX1_kind_46 : decode cX1_kind 46 = .ok (.ireturn, 1) := dk_172 (dk_at dksX1_kind_1 23 rfl rfl)
abbrev cX1_man : ByteArray := prog_10_method_3_code
def yX1_man : MethodName := ⟨RX1, "man", "(Ljava/lang/String;)I"⟩
def dkwX1_man_2 : List UInt8 := [167, 255, 215, 28, 172]
abbrev dktX1_man_2 : List UInt8 := dkwX1_man_2 ++ []
def dkwX1_man_1 : List UInt8 := [192, 0, 55, 180, 0, 57, 43, 182, 0, 51, 153, 0, 7, 29, 167, 0, 4, 28, 61, 132, 3, 1]
abbrev dktX1_man_1 : List UInt8 := dkwX1_man_1 ++ dktX1_man_2
def dkwX1_man_0 : List UInt8 := [2, 61, 3, 62, 29, 42, 180, 0, 20, 182, 0, 41, 162, 0, 36, 42, 180, 0, 20, 29, 182, 0, 45]
abbrev dktX1_man_0 : List UInt8 := dkwX1_man_0 ++ dktX1_man_1
theorem dksX1_man_0 : cX1_man.data.toList.drop 0 = dktX1_man_0 := by decide +kernel
theorem dksX1_man_1 : cX1_man.data.toList.drop 23 = dktX1_man_1 := dk_seg dksX1_man_0 23 rfl rfl
theorem dksX1_man_2 : cX1_man.data.toList.drop 45 = dktX1_man_2 := dk_seg dksX1_man_1 22 rfl rfl
theorem dX1_man_0 : decode cX1_man 0 = .ok (.iconst (-1), 1) := dk_2 (dk_at dksX1_man_0 0 rfl rfl)
theorem dX1_man_1 : decode cX1_man 1 = .ok (.istore_n 2, 1) := dk_61 (dk_at dksX1_man_0 1 rfl rfl)
theorem dX1_man_2 : decode cX1_man 2 = .ok (.iconst 0, 1) := dk_3 (dk_at dksX1_man_0 2 rfl rfl)
theorem dX1_man_3 : decode cX1_man 3 = .ok (.istore_n 3, 1) := dk_62 (dk_at dksX1_man_0 3 rfl rfl)
theorem dX1_man_4 : decode cX1_man 4 = .ok (.iload_n 3, 1) := dk_29 (dk_at dksX1_man_0 4 rfl rfl)
theorem dX1_man_5 : decode cX1_man 5 = .ok (.aload_n 0, 1) := dk_42 (dk_at dksX1_man_0 5 rfl rfl)
theorem dX1_man_6 : decode cX1_man 6 = .ok (.getfield 20, 3) := dk_180 0 20 (dk_at dksX1_man_0 6 rfl rfl)
theorem dX1_man_9 : decode cX1_man 9 = .ok (.invokevirtual 41, 3) := dk_182 0 41 (dk_at dksX1_man_0 9 rfl rfl)
theorem dX1_man_12 : decode cX1_man 12 = .ok (.if_icmp .ge 36, 3) := dk_162 0 36 (dk_at dksX1_man_0 12 rfl rfl)
theorem dX1_man_15 : decode cX1_man 15 = .ok (.aload_n 0, 1) := dk_42 (dk_at dksX1_man_0 15 rfl rfl)
theorem dX1_man_16 : decode cX1_man 16 = .ok (.getfield 20, 3) := dk_180 0 20 (dk_at dksX1_man_0 16 rfl rfl)
theorem dX1_man_19 : decode cX1_man 19 = .ok (.iload_n 3, 1) := dk_29 (dk_at dksX1_man_0 19 rfl rfl)
theorem dX1_man_20 : decode cX1_man 20 = .ok (.invokevirtual 45, 3) := dk_182 0 45 (dk_at dksX1_man_0 20 rfl rfl)
theorem dX1_man_23 : decode cX1_man 23 = .ok (.checkcast 55, 3) := dk_192 0 55 (dk_at dksX1_man_1 0 rfl rfl)
theorem dX1_man_26 : decode cX1_man 26 = .ok (.getfield 57, 3) := dk_180 0 57 (dk_at dksX1_man_1 3 rfl rfl)
theorem dX1_man_29 : decode cX1_man 29 = .ok (.aload_n 1, 1) := dk_43 (dk_at dksX1_man_1 6 rfl rfl)
theorem dX1_man_30 : decode cX1_man 30 = .ok (.invokevirtual 51, 3) := dk_182 0 51 (dk_at dksX1_man_1 7 rfl rfl)
theorem dX1_man_33 : decode cX1_man 33 = .ok (.ifCond .eq 7, 3) := dk_153 0 7 (dk_at dksX1_man_1 10 rfl rfl)
theorem dX1_man_36 : decode cX1_man 36 = .ok (.iload_n 3, 1) := dk_29 (dk_at dksX1_man_1 13 rfl rfl)
theorem dX1_man_37 : decode cX1_man 37 = .ok (.goto 4, 3) := dk_167 0 4 (dk_at dksX1_man_1 14 rfl rfl)
theorem dX1_man_40 : decode cX1_man 40 = .ok (.iload_n 2, 1) := dk_28 (dk_at dksX1_man_1 17 rfl rfl)
theorem dX1_man_41 : decode cX1_man 41 = .ok (.istore_n 2, 1) := dk_61 (dk_at dksX1_man_1 18 rfl rfl)
theorem dX1_man_42 : decode cX1_man 42 = .ok (.iinc 3 1, 3) := dk_132 3 1 (dk_at dksX1_man_1 19 rfl rfl)
theorem dX1_man_45 : decode cX1_man 45 = .ok (.goto (-41), 3) := dk_167 255 215 (dk_at dksX1_man_2 0 rfl rfl)
theorem dX1_man_48 : decode cX1_man 48 = .ok (.iload_n 2, 1) := dk_28 (dk_at dksX1_man_2 3 rfl rfl)
theorem dX1_man_49 : decode cX1_man 49 = .ok (.ireturn, 1) := dk_172 (dk_at dksX1_man_2 4 rfl rfl)
abbrev cX1_rate : ByteArray := prog_10_method_4_code
def yX1_rate : MethodName := ⟨RX1, "rate", "(II)LWeatherWages$Rate;"⟩
def dkwX1_rate_2 : List UInt8 := [28, 160, 0, 8, 25, 5, 167, 0, 4, 45, 78, 167, 255, 209, 45, 176]
abbrev dktX1_rate_2 : List UInt8 := dkwX1_rate_2 ++ []
def dkwX1_rate_1 : List UInt8 := [185, 0, 71, 1, 0, 192, 0, 75, 58, 5, 25, 5, 180, 0, 77, 27, 160, 0, 17, 25, 5, 180, 0, 80]
abbrev dktX1_rate_1 : List UInt8 := dkwX1_rate_1 ++ dktX1_rate_2
def dkwX1_rate_0 : List UInt8 := [1, 78, 42, 180, 0, 23, 182, 0, 61, 58, 4, 25, 4, 185, 0, 65, 1, 0, 153, 0, 43, 25, 4]
abbrev dktX1_rate_0 : List UInt8 := dkwX1_rate_0 ++ dktX1_rate_1
theorem dksX1_rate_0 : cX1_rate.data.toList.drop 0 = dktX1_rate_0 := by decide +kernel
theorem dksX1_rate_1 : cX1_rate.data.toList.drop 23 = dktX1_rate_1 := dk_seg dksX1_rate_0 23 rfl rfl
theorem dksX1_rate_2 : cX1_rate.data.toList.drop 47 = dktX1_rate_2 := dk_seg dksX1_rate_1 24 rfl rfl
theorem dX1_rate_0 : decode cX1_rate 0 = .ok (.aconst_null, 1) := dk_1 (dk_at dksX1_rate_0 0 rfl rfl)
theorem dX1_rate_1 : decode cX1_rate 1 = .ok (.astore_n 3, 1) := dk_78 (dk_at dksX1_rate_0 1 rfl rfl)
theorem dX1_rate_2 : decode cX1_rate 2 = .ok (.aload_n 0, 1) := dk_42 (dk_at dksX1_rate_0 2 rfl rfl)
theorem dX1_rate_3 : decode cX1_rate 3 = .ok (.getfield 23, 3) := dk_180 0 23 (dk_at dksX1_rate_0 3 rfl rfl)
theorem dX1_rate_6 : decode cX1_rate 6 = .ok (.invokevirtual 61, 3) := dk_182 0 61 (dk_at dksX1_rate_0 6 rfl rfl)
theorem dX1_rate_9 : decode cX1_rate 9 = .ok (.astore 4, 2) := dk_58 4 (dk_at dksX1_rate_0 9 rfl rfl)
theorem dX1_rate_11 : decode cX1_rate 11 = .ok (.aload 4, 2) := dk_25 4 (dk_at dksX1_rate_0 11 rfl rfl)
theorem dX1_rate_13 : decode cX1_rate 13 = .ok (.invokeinterface 65 1, 5) := by decide +kernel
theorem dX1_rate_18 : decode cX1_rate 18 = .ok (.ifCond .eq 43, 3) := dk_153 0 43 (dk_at dksX1_rate_0 18 rfl rfl)
theorem dX1_rate_21 : decode cX1_rate 21 = .ok (.aload 4, 2) := dk_25 4 (dk_at dksX1_rate_0 21 rfl rfl)
theorem dX1_rate_23 : decode cX1_rate 23 = .ok (.invokeinterface 71 1, 5) := by decide +kernel
theorem dX1_rate_28 : decode cX1_rate 28 = .ok (.checkcast 75, 3) := dk_192 0 75 (dk_at dksX1_rate_1 5 rfl rfl)
theorem dX1_rate_31 : decode cX1_rate 31 = .ok (.astore 5, 2) := dk_58 5 (dk_at dksX1_rate_1 8 rfl rfl)
theorem dX1_rate_33 : decode cX1_rate 33 = .ok (.aload 5, 2) := dk_25 5 (dk_at dksX1_rate_1 10 rfl rfl)
theorem dX1_rate_35 : decode cX1_rate 35 = .ok (.getfield 77, 3) := dk_180 0 77 (dk_at dksX1_rate_1 12 rfl rfl)
theorem dX1_rate_38 : decode cX1_rate 38 = .ok (.iload_n 1, 1) := dk_27 (dk_at dksX1_rate_1 15 rfl rfl)
theorem dX1_rate_39 : decode cX1_rate 39 = .ok (.if_icmp .ne 17, 3) := dk_160 0 17 (dk_at dksX1_rate_1 16 rfl rfl)
theorem dX1_rate_42 : decode cX1_rate 42 = .ok (.aload 5, 2) := dk_25 5 (dk_at dksX1_rate_1 19 rfl rfl)
theorem dX1_rate_44 : decode cX1_rate 44 = .ok (.getfield 80, 3) := dk_180 0 80 (dk_at dksX1_rate_1 21 rfl rfl)
theorem dX1_rate_47 : decode cX1_rate 47 = .ok (.iload_n 2, 1) := dk_28 (dk_at dksX1_rate_2 0 rfl rfl)
theorem dX1_rate_48 : decode cX1_rate 48 = .ok (.if_icmp .ne 8, 3) := dk_160 0 8 (dk_at dksX1_rate_2 1 rfl rfl)
theorem dX1_rate_51 : decode cX1_rate 51 = .ok (.aload 5, 2) := dk_25 5 (dk_at dksX1_rate_2 4 rfl rfl)
theorem dX1_rate_53 : decode cX1_rate 53 = .ok (.goto 4, 3) := dk_167 0 4 (dk_at dksX1_rate_2 6 rfl rfl)
theorem dX1_rate_56 : decode cX1_rate 56 = .ok (.aload_n 3, 1) := dk_45 (dk_at dksX1_rate_2 9 rfl rfl)
theorem dX1_rate_57 : decode cX1_rate 57 = .ok (.astore_n 3, 1) := dk_78 (dk_at dksX1_rate_2 10 rfl rfl)
theorem dX1_rate_58 : decode cX1_rate 58 = .ok (.goto (-47), 3) := dk_167 255 209 (dk_at dksX1_rate_2 11 rfl rfl)
theorem dX1_rate_61 : decode cX1_rate 61 = .ok (.aload_n 3, 1) := dk_45 (dk_at dksX1_rate_2 14 rfl rfl)
theorem dX1_rate_62 : decode cX1_rate 62 = .ok (.areturn, 1) := dk_176 (dk_at dksX1_rate_2 15 rfl rfl)
abbrev cX1_growth : ByteArray := prog_10_method_6_code
def yX1_growth : MethodName := ⟨RX1, "growth", "([IIII)I"⟩
def dkwX1_growth_5 : List UInt8 := [184, 0, 120, 172]
abbrev dktX1_growth_5 : List UInt8 := dkwX1_growth_5 ++ []
def dkwX1_growth_4 : List UInt8 := [42, 180, 0, 86, 42, 180, 0, 33, 185, 0, 108, 2, 0, 54, 6, 16, 236, 16, 20, 21, 6, 184, 0, 114]
abbrev dktX1_growth_4 : List UInt8 := dkwX1_growth_4 ++ dktX1_growth_5
def dkwX1_growth_3 : List UInt8 := [180, 0, 33, 29, 181, 0, 99, 42, 180, 0, 33, 21, 4, 181, 0, 102, 42, 180, 0, 33, 28, 181, 0, 105]
abbrev dktX1_growth_3 : List UInt8 := dkwX1_growth_3 ++ dktX1_growth_4
def dkwX1_growth_2 : List UInt8 := [43, 21, 5, 4, 96, 46, 181, 0, 93, 42, 180, 0, 33, 43, 21, 5, 5, 96, 46, 181, 0, 96, 42]
abbrev dktX1_growth_2 : List UInt8 := dkwX1_growth_2 ++ dktX1_growth_3
def dkwX1_growth_1 : List UInt8 := [54, 6, 42, 180, 0, 86, 198, 0, 80, 42, 180, 0, 33, 43, 21, 5, 46, 181, 0, 90, 42, 180, 0, 33]
abbrev dktX1_growth_1 : List UInt8 := dkwX1_growth_1 ++ dktX1_growth_2
def dkwX1_growth_0 : List UInt8 := [6, 28, 104, 54, 5, 43, 21, 5, 46, 43, 21, 5, 4, 96, 46, 96, 43, 21, 5, 5, 96, 46, 96]
abbrev dktX1_growth_0 : List UInt8 := dkwX1_growth_0 ++ dktX1_growth_1
theorem dksX1_growth_0 : cX1_growth.data.toList.drop 0 = dktX1_growth_0 := by decide +kernel
theorem dksX1_growth_1 : cX1_growth.data.toList.drop 23 = dktX1_growth_1 := dk_seg dksX1_growth_0 23 rfl rfl
theorem dksX1_growth_2 : cX1_growth.data.toList.drop 47 = dktX1_growth_2 := dk_seg dksX1_growth_1 24 rfl rfl
theorem dksX1_growth_3 : cX1_growth.data.toList.drop 70 = dktX1_growth_3 := dk_seg dksX1_growth_2 23 rfl rfl
theorem dksX1_growth_4 : cX1_growth.data.toList.drop 94 = dktX1_growth_4 := dk_seg dksX1_growth_3 24 rfl rfl
theorem dksX1_growth_5 : cX1_growth.data.toList.drop 118 = dktX1_growth_5 := dk_seg dksX1_growth_4 24 rfl rfl
theorem dX1_growth_0 : decode cX1_growth 0 = .ok (.iconst 3, 1) := dk_6 (dk_at dksX1_growth_0 0 rfl rfl)
theorem dX1_growth_1 : decode cX1_growth 1 = .ok (.iload_n 2, 1) := dk_28 (dk_at dksX1_growth_0 1 rfl rfl)
theorem dX1_growth_2 : decode cX1_growth 2 = .ok (.imul, 1) := dk_104 (dk_at dksX1_growth_0 2 rfl rfl)
theorem dX1_growth_3 : decode cX1_growth 3 = .ok (.istore 5, 2) := dk_54 5 (dk_at dksX1_growth_0 3 rfl rfl)
theorem dX1_growth_5 : decode cX1_growth 5 = .ok (.aload_n 1, 1) := dk_43 (dk_at dksX1_growth_0 5 rfl rfl)
theorem dX1_growth_6 : decode cX1_growth 6 = .ok (.iload 5, 2) := dk_21 5 (dk_at dksX1_growth_0 6 rfl rfl)
theorem dX1_growth_8 : decode cX1_growth 8 = .ok (.iaload, 1) := dk_46 (dk_at dksX1_growth_0 8 rfl rfl)
theorem dX1_growth_9 : decode cX1_growth 9 = .ok (.aload_n 1, 1) := dk_43 (dk_at dksX1_growth_0 9 rfl rfl)
theorem dX1_growth_10 : decode cX1_growth 10 = .ok (.iload 5, 2) := dk_21 5 (dk_at dksX1_growth_0 10 rfl rfl)
theorem dX1_growth_12 : decode cX1_growth 12 = .ok (.iconst 1, 1) := dk_4 (dk_at dksX1_growth_0 12 rfl rfl)
theorem dX1_growth_13 : decode cX1_growth 13 = .ok (.iadd, 1) := dk_96 (dk_at dksX1_growth_0 13 rfl rfl)
theorem dX1_growth_14 : decode cX1_growth 14 = .ok (.iaload, 1) := dk_46 (dk_at dksX1_growth_0 14 rfl rfl)
theorem dX1_growth_15 : decode cX1_growth 15 = .ok (.iadd, 1) := dk_96 (dk_at dksX1_growth_0 15 rfl rfl)
theorem dX1_growth_16 : decode cX1_growth 16 = .ok (.aload_n 1, 1) := dk_43 (dk_at dksX1_growth_0 16 rfl rfl)
theorem dX1_growth_17 : decode cX1_growth 17 = .ok (.iload 5, 2) := dk_21 5 (dk_at dksX1_growth_0 17 rfl rfl)
theorem dX1_growth_19 : decode cX1_growth 19 = .ok (.iconst 2, 1) := dk_5 (dk_at dksX1_growth_0 19 rfl rfl)
theorem dX1_growth_20 : decode cX1_growth 20 = .ok (.iadd, 1) := dk_96 (dk_at dksX1_growth_0 20 rfl rfl)
theorem dX1_growth_21 : decode cX1_growth 21 = .ok (.iaload, 1) := dk_46 (dk_at dksX1_growth_0 21 rfl rfl)
theorem dX1_growth_22 : decode cX1_growth 22 = .ok (.iadd, 1) := dk_96 (dk_at dksX1_growth_0 22 rfl rfl)
theorem dX1_growth_23 : decode cX1_growth 23 = .ok (.istore 6, 2) := dk_54 6 (dk_at dksX1_growth_1 0 rfl rfl)
theorem dX1_growth_25 : decode cX1_growth 25 = .ok (.aload_n 0, 1) := dk_42 (dk_at dksX1_growth_1 2 rfl rfl)
theorem dX1_growth_26 : decode cX1_growth 26 = .ok (.getfield 86, 3) := dk_180 0 86 (dk_at dksX1_growth_1 3 rfl rfl)
theorem dX1_growth_29 : decode cX1_growth 29 = .ok (.ifnull 80, 3) := dk_198 0 80 (dk_at dksX1_growth_1 6 rfl rfl)
theorem dX1_growth_32 : decode cX1_growth 32 = .ok (.aload_n 0, 1) := dk_42 (dk_at dksX1_growth_1 9 rfl rfl)
theorem dX1_growth_33 : decode cX1_growth 33 = .ok (.getfield 33, 3) := dk_180 0 33 (dk_at dksX1_growth_1 10 rfl rfl)
theorem dX1_growth_36 : decode cX1_growth 36 = .ok (.aload_n 1, 1) := dk_43 (dk_at dksX1_growth_1 13 rfl rfl)
theorem dX1_growth_37 : decode cX1_growth 37 = .ok (.iload 5, 2) := dk_21 5 (dk_at dksX1_growth_1 14 rfl rfl)
theorem dX1_growth_39 : decode cX1_growth 39 = .ok (.iaload, 1) := dk_46 (dk_at dksX1_growth_1 16 rfl rfl)
theorem dX1_growth_40 : decode cX1_growth 40 = .ok (.putfield 90, 3) := dk_181 0 90 (dk_at dksX1_growth_1 17 rfl rfl)
theorem dX1_growth_43 : decode cX1_growth 43 = .ok (.aload_n 0, 1) := dk_42 (dk_at dksX1_growth_1 20 rfl rfl)
theorem dX1_growth_44 : decode cX1_growth 44 = .ok (.getfield 33, 3) := dk_180 0 33 (dk_at dksX1_growth_1 21 rfl rfl)
theorem dX1_growth_47 : decode cX1_growth 47 = .ok (.aload_n 1, 1) := dk_43 (dk_at dksX1_growth_2 0 rfl rfl)
theorem dX1_growth_48 : decode cX1_growth 48 = .ok (.iload 5, 2) := dk_21 5 (dk_at dksX1_growth_2 1 rfl rfl)
theorem dX1_growth_50 : decode cX1_growth 50 = .ok (.iconst 1, 1) := dk_4 (dk_at dksX1_growth_2 3 rfl rfl)
theorem dX1_growth_51 : decode cX1_growth 51 = .ok (.iadd, 1) := dk_96 (dk_at dksX1_growth_2 4 rfl rfl)
theorem dX1_growth_52 : decode cX1_growth 52 = .ok (.iaload, 1) := dk_46 (dk_at dksX1_growth_2 5 rfl rfl)
theorem dX1_growth_53 : decode cX1_growth 53 = .ok (.putfield 93, 3) := dk_181 0 93 (dk_at dksX1_growth_2 6 rfl rfl)
theorem dX1_growth_56 : decode cX1_growth 56 = .ok (.aload_n 0, 1) := dk_42 (dk_at dksX1_growth_2 9 rfl rfl)
theorem dX1_growth_57 : decode cX1_growth 57 = .ok (.getfield 33, 3) := dk_180 0 33 (dk_at dksX1_growth_2 10 rfl rfl)
theorem dX1_growth_60 : decode cX1_growth 60 = .ok (.aload_n 1, 1) := dk_43 (dk_at dksX1_growth_2 13 rfl rfl)
theorem dX1_growth_61 : decode cX1_growth 61 = .ok (.iload 5, 2) := dk_21 5 (dk_at dksX1_growth_2 14 rfl rfl)
theorem dX1_growth_63 : decode cX1_growth 63 = .ok (.iconst 2, 1) := dk_5 (dk_at dksX1_growth_2 16 rfl rfl)
theorem dX1_growth_64 : decode cX1_growth 64 = .ok (.iadd, 1) := dk_96 (dk_at dksX1_growth_2 17 rfl rfl)
theorem dX1_growth_65 : decode cX1_growth 65 = .ok (.iaload, 1) := dk_46 (dk_at dksX1_growth_2 18 rfl rfl)
theorem dX1_growth_66 : decode cX1_growth 66 = .ok (.putfield 96, 3) := dk_181 0 96 (dk_at dksX1_growth_2 19 rfl rfl)
theorem dX1_growth_69 : decode cX1_growth 69 = .ok (.aload_n 0, 1) := dk_42 (dk_at dksX1_growth_2 22 rfl rfl)
theorem dX1_growth_70 : decode cX1_growth 70 = .ok (.getfield 33, 3) := dk_180 0 33 (dk_at dksX1_growth_3 0 rfl rfl)
theorem dX1_growth_73 : decode cX1_growth 73 = .ok (.iload_n 3, 1) := dk_29 (dk_at dksX1_growth_3 3 rfl rfl)
theorem dX1_growth_74 : decode cX1_growth 74 = .ok (.putfield 99, 3) := dk_181 0 99 (dk_at dksX1_growth_3 4 rfl rfl)
theorem dX1_growth_77 : decode cX1_growth 77 = .ok (.aload_n 0, 1) := dk_42 (dk_at dksX1_growth_3 7 rfl rfl)
theorem dX1_growth_78 : decode cX1_growth 78 = .ok (.getfield 33, 3) := dk_180 0 33 (dk_at dksX1_growth_3 8 rfl rfl)
theorem dX1_growth_81 : decode cX1_growth 81 = .ok (.iload 4, 2) := dk_21 4 (dk_at dksX1_growth_3 11 rfl rfl)
theorem dX1_growth_83 : decode cX1_growth 83 = .ok (.putfield 102, 3) := dk_181 0 102 (dk_at dksX1_growth_3 13 rfl rfl)
theorem dX1_growth_86 : decode cX1_growth 86 = .ok (.aload_n 0, 1) := dk_42 (dk_at dksX1_growth_3 16 rfl rfl)
theorem dX1_growth_87 : decode cX1_growth 87 = .ok (.getfield 33, 3) := dk_180 0 33 (dk_at dksX1_growth_3 17 rfl rfl)
theorem dX1_growth_90 : decode cX1_growth 90 = .ok (.iload_n 2, 1) := dk_28 (dk_at dksX1_growth_3 20 rfl rfl)
theorem dX1_growth_91 : decode cX1_growth 91 = .ok (.putfield 105, 3) := dk_181 0 105 (dk_at dksX1_growth_3 21 rfl rfl)
theorem dX1_growth_94 : decode cX1_growth 94 = .ok (.aload_n 0, 1) := dk_42 (dk_at dksX1_growth_4 0 rfl rfl)
theorem dX1_growth_95 : decode cX1_growth 95 = .ok (.getfield 86, 3) := dk_180 0 86 (dk_at dksX1_growth_4 1 rfl rfl)
theorem dX1_growth_98 : decode cX1_growth 98 = .ok (.aload_n 0, 1) := dk_42 (dk_at dksX1_growth_4 4 rfl rfl)
theorem dX1_growth_99 : decode cX1_growth 99 = .ok (.getfield 33, 3) := dk_180 0 33 (dk_at dksX1_growth_4 5 rfl rfl)
theorem dX1_growth_102 : decode cX1_growth 102 = .ok (.invokeinterface 108 2, 5) := by decide +kernel
theorem dX1_growth_107 : decode cX1_growth 107 = .ok (.istore 6, 2) := dk_54 6 (dk_at dksX1_growth_4 13 rfl rfl)
theorem dX1_growth_109 : decode cX1_growth 109 = .ok (.bipush (-20), 2) := dk_16 236 (dk_at dksX1_growth_4 15 rfl rfl)
theorem dX1_growth_111 : decode cX1_growth 111 = .ok (.bipush 20, 2) := dk_16 20 (dk_at dksX1_growth_4 17 rfl rfl)
theorem dX1_growth_113 : decode cX1_growth 113 = .ok (.iload 6, 2) := dk_21 6 (dk_at dksX1_growth_4 19 rfl rfl)
theorem dX1_growth_115 : decode cX1_growth 115 = .ok (.invokestatic 114, 3) := dk_184 0 114 (dk_at dksX1_growth_4 21 rfl rfl)
theorem dX1_growth_118 : decode cX1_growth 118 = .ok (.invokestatic 120, 3) := dk_184 0 120 (dk_at dksX1_growth_5 0 rfl rfl)
theorem dX1_growth_121 : decode cX1_growth 121 = .ok (.ireturn, 1) := dk_172 (dk_at dksX1_growth_5 3 rfl rfl)
abbrev cX1_hedge : ByteArray := prog_10_method_5_code
def yX1_hedge : MethodName := ⟨RX1, "hedge", "(I)I"⟩
def dkwX1_hedge_0 : List UInt8 := [42, 180, 0, 20, 27, 182, 0, 45, 192, 0, 55, 180, 0, 83, 172]
abbrev dktX1_hedge_0 : List UInt8 := dkwX1_hedge_0 ++ []
theorem dksX1_hedge_0 : cX1_hedge.data.toList.drop 0 = dktX1_hedge_0 := by decide +kernel
theorem dX1_hedge_0 : decode cX1_hedge 0 = .ok (.aload_n 0, 1) := dk_42 (dk_at dksX1_hedge_0 0 rfl rfl)
theorem dX1_hedge_1 : decode cX1_hedge 1 = .ok (.getfield 20, 3) := dk_180 0 20 (dk_at dksX1_hedge_0 1 rfl rfl)
theorem dX1_hedge_4 : decode cX1_hedge 4 = .ok (.iload_n 1, 1) := dk_27 (dk_at dksX1_hedge_0 4 rfl rfl)
theorem dX1_hedge_5 : decode cX1_hedge 5 = .ok (.invokevirtual 45, 3) := dk_182 0 45 (dk_at dksX1_hedge_0 5 rfl rfl)
theorem dX1_hedge_8 : decode cX1_hedge 8 = .ok (.checkcast 55, 3) := dk_192 0 55 (dk_at dksX1_hedge_0 8 rfl rfl)
theorem dX1_hedge_11 : decode cX1_hedge 11 = .ok (.getfield 83, 3) := dk_180 0 83 (dk_at dksX1_hedge_0 11 rfl rfl)
theorem dX1_hedge_14 : decode cX1_hedge 14 = .ok (.ireturn, 1) := dk_172 (dk_at dksX1_hedge_0 14 rfl rfl)
theorem q142 : (Jvm.Cond.initialized "WeatherWages$Book") ∈ lw_all := lw_g (lw_at lw_m1 2 rfl) rfl
theorem q182 : (Jvm.Cond.instantiable "WeatherWages$Book" (10 : Nat)) ∈ lw_all := lw_g (lw_at lw_m1 42 rfl) rfl
theorem q184 : (Jvm.Cond.instanceMethod ({ cls := "WeatherWages$Book", name := "<init>", desc := "()V" } : Jvm.MethodName)) ∈ lw_all := lw_g (lw_at lw_m1 44 rfl) rfl
theorem q185 : (Jvm.Cond.code ({ cls := "WeatherWages$Book", name := "<init>", desc := "()V" } : Jvm.MethodName) prog_10_method_1_code (1 : Nat) (Option.none : Option Jvm.ClassFile.FieldType)) ∈ lw_all := lw_g (lw_at lw_m1 45 rfl) rfl
theorem q186 : (Jvm.Cond.methodLink "WeatherWages$Book" (3 : Nat) ({ cls := "java/lang/Object", name := "<init>", desc := "()V" } : Jvm.MethodName)) ∈ lw_all := lw_g (lw_at lw_m1 46 rfl) rfl
theorem q187 : (Jvm.Cond.classLink "WeatherWages$Book" (9 : Nat) "java/util/ArrayList") ∈ lw_all := lw_g (lw_at lw_m1 47 rfl) rfl
theorem q189 : (Jvm.Cond.methodLink "WeatherWages$Book" (11 : Nat) ({ cls := "java/util/ArrayList", name := "<init>", desc := "(I)V" } : Jvm.MethodName)) ∈ lw_all := lw_g (lw_at lw_m1 49 rfl) rfl
theorem q219 : (Jvm.Cond.classLink "WeatherWages$Book" (30 : Nat) "WeatherWages$Ask") ∈ lw_all := lw_g (lw_at lw_m1 79 rfl) rfl
theorem q221 : (Jvm.Cond.methodLinkNest "WeatherWages$Book" (32 : Nat) ({ cls := "WeatherWages$Ask", name := "<init>", desc := "()V" } : Jvm.MethodName) "WeatherWages") ∈ lw_tbl := lw_at lw_m1 81 rfl
theorem q226 : (Jvm.Cond.fieldLink "WeatherWages$Book" (90 : Nat) "WeatherWages$Ask" "first" "I") ∈ lw_all := lw_g (lw_at lw_m1 86 rfl) rfl
theorem q228 : (Jvm.Cond.fieldLink "WeatherWages$Book" (93 : Nat) "WeatherWages$Ask" "second" "I") ∈ lw_all := lw_g (lw_at lw_m1 88 rfl) rfl
theorem q230 : (Jvm.Cond.fieldLink "WeatherWages$Book" (96 : Nat) "WeatherWages$Ask" "third" "I") ∈ lw_all := lw_g (lw_at lw_m1 90 rfl) rfl
theorem q232 : (Jvm.Cond.fieldLink "WeatherWages$Book" (99 : Nat) "WeatherWages$Ask" "crop" "I") ∈ lw_all := lw_g (lw_at lw_m1 92 rfl) rfl
theorem q234 : (Jvm.Cond.fieldLink "WeatherWages$Book" (102 : Nat) "WeatherWages$Ask" "week" "I") ∈ lw_all := lw_g (lw_at lw_m1 94 rfl) rfl
theorem q236 : (Jvm.Cond.fieldLink "WeatherWages$Book" (105 : Nat) "WeatherWages$Ask" "plot" "I") ∈ lw_all := lw_g (lw_at lw_m1 96 rfl) rfl
theorem q251 : (Jvm.Cond.fieldLink "WeatherWages$Book" (14 : Nat) "WeatherWages$Book" "kinds" "Ljava/util/ArrayList;") ∈ lw_all := lw_g (lw_at lw_m1 111 rfl) rfl
theorem q255 : (Jvm.Cond.fieldLink "WeatherWages$Book" (20 : Nat) "WeatherWages$Book" "men" "Ljava/util/ArrayList;") ∈ lw_all := lw_g (lw_at lw_m1 115 rfl) rfl
theorem q259 : (Jvm.Cond.fieldLink "WeatherWages$Book" (23 : Nat) "WeatherWages$Book" "rates" "Ljava/util/ArrayList;") ∈ lw_all := lw_g (lw_at lw_m1 119 rfl) rfl
theorem q262 : (Jvm.Cond.fieldLink "WeatherWages$Book" (26 : Nat) "WeatherWages$Book" "books" "[I") ∈ lw_all := lw_g (lw_at lw_m1 122 rfl) rfl
theorem q265 : (Jvm.Cond.fieldLink "WeatherWages$Book" (33 : Nat) "WeatherWages$Book" "ask" "LWeatherWages$Ask;") ∈ lw_all := lw_g (lw_at lw_m1 125 rfl) rfl
theorem q266 : (Jvm.Cond.fieldLink "WeatherWages$Book" (86 : Nat) "WeatherWages$Book" "grow" "LWeatherWages$Node;") ∈ lw_all := lw_g (lw_at lw_m1 126 rfl) rfl
theorem q270 : (Jvm.Cond.fieldLink "WeatherWages$Book" (37 : Nat) "WeatherWages$Book" "hours" "I") ∈ lw_all := lw_g (lw_at lw_m1 130 rfl) rfl
theorem q277 : (Jvm.Cond.laysFinal "WeatherWages$Book" "WeatherWages$Book" "kinds" "Ljava/util/ArrayList;") ∈ lw_all := lw_g (lw_at lw_m1 137 rfl) rfl
theorem q278 : (Jvm.Cond.soleField "WeatherWages$Book" "kinds") ∈ lw_all := lw_g (lw_at lw_m1 138 rfl) rfl
theorem q279 : (Jvm.Cond.laysFinal "WeatherWages$Book" "WeatherWages$Book" "men" "Ljava/util/ArrayList;") ∈ lw_all := lw_g (lw_at lw_m1 139 rfl) rfl
theorem q280 : (Jvm.Cond.soleField "WeatherWages$Book" "men") ∈ lw_all := lw_g (lw_at lw_m1 140 rfl) rfl
theorem q281 : (Jvm.Cond.laysFinal "WeatherWages$Book" "WeatherWages$Book" "rates" "Ljava/util/ArrayList;") ∈ lw_all := lw_g (lw_at lw_m1 141 rfl) rfl
theorem q282 : (Jvm.Cond.soleField "WeatherWages$Book" "rates") ∈ lw_all := lw_g (lw_at lw_m1 142 rfl) rfl
theorem q283 : (Jvm.Cond.laysFinal "WeatherWages$Book" "WeatherWages$Book" "books" "[I") ∈ lw_all := lw_g (lw_at lw_m1 143 rfl) rfl
theorem q284 : (Jvm.Cond.soleField "WeatherWages$Book" "books") ∈ lw_all := lw_g (lw_at lw_m1 144 rfl) rfl
theorem q285 : (Jvm.Cond.laysFinal "WeatherWages$Book" "WeatherWages$Book" "ask" "LWeatherWages$Ask;") ∈ lw_all := lw_g (lw_at lw_m1 145 rfl) rfl
theorem q286 : (Jvm.Cond.soleField "WeatherWages$Book" "ask") ∈ lw_all := lw_g (lw_at lw_m1 146 rfl) rfl
theorem q287 : (Jvm.Cond.lays "WeatherWages$Book" "WeatherWages$Book" "grow" "LWeatherWages$Node;") ∈ lw_all := lw_g (lw_at lw_m1 147 rfl) rfl
theorem q288 : (Jvm.Cond.soleField "WeatherWages$Book" "grow") ∈ lw_all := lw_g (lw_at lw_m1 148 rfl) rfl
theorem q289 : (Jvm.Cond.lays "WeatherWages$Book" "WeatherWages$Book" "bookMany" "I") ∈ lw_all := lw_g (lw_at lw_m1 149 rfl) rfl
theorem q290 : (Jvm.Cond.soleField "WeatherWages$Book" "bookMany") ∈ lw_all := lw_g (lw_at lw_m1 150 rfl) rfl
theorem q291 : (Jvm.Cond.lays "WeatherWages$Book" "WeatherWages$Book" "hours" "I") ∈ lw_all := lw_g (lw_at lw_m1 151 rfl) rfl
theorem q292 : (Jvm.Cond.soleField "WeatherWages$Book" "hours") ∈ lw_all := lw_g (lw_at lw_m1 152 rfl) rfl
theorem q293 : (Jvm.Cond.lays "WeatherWages$Book" "WeatherWages$Book" "seed" "I") ∈ lw_all := lw_g (lw_at lw_m1 153 rfl) rfl
theorem q294 : (Jvm.Cond.soleField "WeatherWages$Book" "seed") ∈ lw_all := lw_g (lw_at lw_m1 154 rfl) rfl
theorem q295 : (Jvm.Cond.lays "WeatherWages$Book" "WeatherWages$Book" "units" "I") ∈ lw_all := lw_g (lw_at lw_m1 155 rfl) rfl
theorem q296 : (Jvm.Cond.soleField "WeatherWages$Book" "units") ∈ lw_all := lw_g (lw_at lw_m1 156 rfl) rfl
theorem q297 : (Jvm.Cond.superclass "WeatherWages$Book" "java/lang/Object") ∈ lw_all := lw_g (lw_at lw_m1 157 rfl) rfl
theorem q741 : (Jvm.Cond.instanceMethod ({ cls := "WeatherWages$Book", name := "kind", desc := "(Ljava/lang/String;)I" } : Jvm.MethodName)) ∈ lw_all := lw_g (lw_at lw_m3 121 rfl) rfl
theorem q742 : (Jvm.Cond.selects "WeatherWages$Book" ({ cls := "WeatherWages$Book", name := "kind", desc := "(Ljava/lang/String;)I" } : Jvm.MethodName) ({ cls := "WeatherWages$Book", name := "kind", desc := "(Ljava/lang/String;)I" } : Jvm.MethodName)) ∈ lw_all := lw_g (lw_at lw_m3 122 rfl) rfl
theorem q743 : (Jvm.Cond.code ({ cls := "WeatherWages$Book", name := "kind", desc := "(Ljava/lang/String;)I" } : Jvm.MethodName) prog_10_method_2_code (4 : Nat) (Option.some Jvm.ClassFile.FieldType.int)) ∈ lw_all := lw_g (lw_at lw_m3 123 rfl) rfl
theorem q744 : (Jvm.Cond.methodLink "WeatherWages$Book" (41 : Nat) ({ cls := "java/util/ArrayList", name := "size", desc := "()I" } : Jvm.MethodName)) ∈ lw_all := lw_g (lw_at lw_m3 124 rfl) rfl
theorem q745 : (Jvm.Cond.methodLink "WeatherWages$Book" (45 : Nat) ({ cls := "java/util/ArrayList", name := "get", desc := "(I)Ljava/lang/Object;" } : Jvm.MethodName)) ∈ lw_all := lw_g (lw_at lw_m3 125 rfl) rfl
theorem q746 : (Jvm.Cond.classLink "WeatherWages$Book" (49 : Nat) "java/lang/String") ∈ lw_all := lw_g (lw_at lw_m3 126 rfl) rfl
theorem q747 : (Jvm.Cond.methodLink "WeatherWages$Book" (51 : Nat) ({ cls := "java/lang/String", name := "equals", desc := "(Ljava/lang/Object;)Z" } : Jvm.MethodName)) ∈ lw_all := lw_g (lw_at lw_m3 127 rfl) rfl
theorem q933 : (Jvm.Cond.selects "WeatherWages$Book" ({ cls := "java/lang/Object", name := "getClass", desc := "()Ljava/lang/Class;" } : Jvm.MethodName) ({ cls := "java/lang/Object", name := "getClass", desc := "()Ljava/lang/Class;" } : Jvm.MethodName)) ∈ lw_all := lw_g (lw_at lw_m4 73 rfl) rfl
theorem q963 : (Jvm.Cond.instanceMethod ({ cls := "WeatherWages$Book", name := "man", desc := "(Ljava/lang/String;)I" } : Jvm.MethodName)) ∈ lw_all := lw_g (lw_at lw_m4 103 rfl) rfl
theorem q964 : (Jvm.Cond.selects "WeatherWages$Book" ({ cls := "WeatherWages$Book", name := "man", desc := "(Ljava/lang/String;)I" } : Jvm.MethodName) ({ cls := "WeatherWages$Book", name := "man", desc := "(Ljava/lang/String;)I" } : Jvm.MethodName)) ∈ lw_all := lw_g (lw_at lw_m4 104 rfl) rfl
theorem q965 : (Jvm.Cond.code ({ cls := "WeatherWages$Book", name := "man", desc := "(Ljava/lang/String;)I" } : Jvm.MethodName) prog_10_method_3_code (4 : Nat) (Option.some Jvm.ClassFile.FieldType.int)) ∈ lw_all := lw_g (lw_at lw_m4 105 rfl) rfl
theorem q966 : (Jvm.Cond.classLink "WeatherWages$Book" (55 : Nat) "WeatherWages$Man") ∈ lw_all := lw_g (lw_at lw_m4 106 rfl) rfl
theorem q972 : (Jvm.Cond.fieldLink "WeatherWages$Book" (57 : Nat) "WeatherWages$Man" "name" "Ljava/lang/String;") ∈ lw_all := lw_g (lw_at lw_m4 112 rfl) rfl
theorem q985 : (Jvm.Cond.fieldLink "WeatherWages$Book" (83 : Nat) "WeatherWages$Man" "hedge" "I") ∈ lw_all := lw_g (lw_at lw_m4 125 rfl) rfl
theorem q1057 : (Jvm.Cond.instanceMethod ({ cls := "WeatherWages$Book", name := "rate", desc := "(II)LWeatherWages$Rate;" } : Jvm.MethodName)) ∈ lw_all := lw_g (lw_at lw_m4 197 rfl) rfl
theorem q1058 : (Jvm.Cond.selects "WeatherWages$Book" ({ cls := "WeatherWages$Book", name := "rate", desc := "(II)LWeatherWages$Rate;" } : Jvm.MethodName) ({ cls := "WeatherWages$Book", name := "rate", desc := "(II)LWeatherWages$Rate;" } : Jvm.MethodName)) ∈ lw_all := lw_g (lw_at lw_m4 198 rfl) rfl
theorem q1059 : (Jvm.Cond.code ({ cls := "WeatherWages$Book", name := "rate", desc := "(II)LWeatherWages$Rate;" } : Jvm.MethodName) prog_10_method_4_code (6 : Nat) (Option.some (Jvm.ClassFile.FieldType.object "WeatherWages$Rate"))) ∈ lw_all := lw_g (lw_at lw_m4 199 rfl) rfl
theorem q1060 : (Jvm.Cond.methodLink "WeatherWages$Book" (61 : Nat) ({ cls := "java/util/ArrayList", name := "iterator", desc := "()Ljava/util/Iterator;" } : Jvm.MethodName)) ∈ lw_all := lw_g (lw_at lw_m4 200 rfl) rfl
theorem q1083 : (Jvm.Cond.interfaceEntry "WeatherWages$Book" (65 : Nat)) ∈ lw_tbl := lw_at lw_m4 223 rfl
theorem q1084 : (Jvm.Cond.methodLink "WeatherWages$Book" (65 : Nat) ({ cls := "java/util/Iterator", name := "hasNext", desc := "()Z" } : Jvm.MethodName)) ∈ lw_all := lw_g (lw_at lw_m4 224 rfl) rfl
theorem q1093 : (Jvm.Cond.interfaceEntry "WeatherWages$Book" (71 : Nat)) ∈ lw_tbl := lw_at lw_m4 233 rfl
theorem q1094 : (Jvm.Cond.methodLink "WeatherWages$Book" (71 : Nat) ({ cls := "java/util/Iterator", name := "next", desc := "()Ljava/lang/Object;" } : Jvm.MethodName)) ∈ lw_all := lw_g (lw_at lw_m4 234 rfl) rfl
theorem q1106 : (Jvm.Cond.classLink "WeatherWages$Book" (75 : Nat) "WeatherWages$Rate") ∈ lw_all := lw_g (lw_at lw_m5 6 rfl) rfl
theorem q1114 : (Jvm.Cond.fieldLink "WeatherWages$Book" (77 : Nat) "WeatherWages$Rate" "from" "I") ∈ lw_all := lw_g (lw_at lw_m5 14 rfl) rfl
theorem q1116 : (Jvm.Cond.fieldLink "WeatherWages$Book" (80 : Nat) "WeatherWages$Rate" "to" "I") ∈ lw_all := lw_g (lw_at lw_m5 16 rfl) rfl
theorem q1258 : (Jvm.Cond.instanceMethod ({ cls := "WeatherWages$Book", name := "growth", desc := "([IIII)I" } : Jvm.MethodName)) ∈ lw_all := lw_g (lw_at lw_m5 158 rfl) rfl
theorem q1259 : (Jvm.Cond.selects "WeatherWages$Book" ({ cls := "WeatherWages$Book", name := "growth", desc := "([IIII)I" } : Jvm.MethodName) ({ cls := "WeatherWages$Book", name := "growth", desc := "([IIII)I" } : Jvm.MethodName)) ∈ lw_all := lw_g (lw_at lw_m5 159 rfl) rfl
theorem q1260 : (Jvm.Cond.code ({ cls := "WeatherWages$Book", name := "growth", desc := "([IIII)I" } : Jvm.MethodName) prog_10_method_6_code (7 : Nat) (Option.some Jvm.ClassFile.FieldType.int)) ∈ lw_all := lw_g (lw_at lw_m5 160 rfl) rfl
theorem q1261 : (Jvm.Cond.interfaceEntry "WeatherWages$Book" (108 : Nat)) ∈ lw_tbl := lw_at lw_m5 161 rfl
theorem q1262 : (Jvm.Cond.methodLink "WeatherWages$Book" (108 : Nat) ({ cls := "WeatherWages$Node", name := "of", desc := "(LWeatherWages$Ask;)I" } : Jvm.MethodName)) ∈ lw_all := lw_g (lw_at lw_m5 162 rfl) rfl
theorem q1323 : (Jvm.Cond.methodLink "WeatherWages$Book" (114 : Nat) ({ cls := "java/lang/Math", name := "min", desc := "(II)I" } : Jvm.MethodName)) ∈ lw_all := lw_g (lw_at lw_m5 223 rfl) rfl
theorem q1324 : (Jvm.Cond.methodLink "WeatherWages$Book" (120 : Nat) ({ cls := "java/lang/Math", name := "max", desc := "(II)I" } : Jvm.MethodName)) ∈ lw_all := lw_g (lw_at lw_m5 224 rfl) rfl
theorem q1395 : (Jvm.Cond.instanceMethod ({ cls := "WeatherWages$Book", name := "hedge", desc := "(I)I" } : Jvm.MethodName)) ∈ lw_all := lw_g (lw_at lw_m6 55 rfl) rfl
theorem q1396 : (Jvm.Cond.selects "WeatherWages$Book" ({ cls := "WeatherWages$Book", name := "hedge", desc := "(I)I" } : Jvm.MethodName) ({ cls := "WeatherWages$Book", name := "hedge", desc := "(I)I" } : Jvm.MethodName)) ∈ lw_all := lw_g (lw_at lw_m6 56 rfl) rfl
theorem q1397 : (Jvm.Cond.code ({ cls := "WeatherWages$Book", name := "hedge", desc := "(I)I" } : Jvm.MethodName) prog_10_method_5_code (2 : Nat) (Option.some Jvm.ClassFile.FieldType.int)) ∈ lw_all := lw_g (lw_at lw_m6 57 rfl) rfl
theorem q2461 : (Jvm.Cond.castable "WeatherWages$Book" "java/lang/Object") ∈ lw_tbl := lw_at lw_m10 161 rfl
theorem in_X1 : ∀ w ∈ wsX10, w ∈ lw_all := lw_in wsX10 [277, 279, 281, 283, 285, 287, 289, 291, 293, 295] (by decide +kernel) (by decide +kernel)
/-! WeatherWages$Value -/
set_option maxRecDepth 100000
def RX10 : String := "WeatherWages$Value"
def TX10 : u_T := fun k => match k with
  | _ => ("WeatherWages$Value", "v", "I", true)
def tyX10 : Nat → FieldType := fun k => match k with
  | _ => .int
abbrev wsX100 : List Cond := u_ws RX10 TX10 1
theorem nmX10 : ∀ a, a < 1 → ∀ b, b < 1 → a ≠ b → (TX10 a).2.1 ≠ (TX10 b).2.1 := by decide +kernel
theorem tyX10_ok : ∀ k, k < 1 → parseFieldDescriptor (TX10 k).2.2.1 = some (tyX10 k) := by decide +kernel
abbrev cX10_init : ByteArray := prog_19_method_1_code
def yX10_init : MethodName := ⟨RX10, "<init>", "(I)V"⟩
def dkwX10_init_0 : List UInt8 := [42, 183, 0, 1, 42, 27, 181, 0, 7, 177]
abbrev dktX10_init_0 : List UInt8 := dkwX10_init_0 ++ []
theorem dksX10_init_0 : cX10_init.data.toList.drop 0 = dktX10_init_0 := by decide +kernel
theorem dX10_init_0 : decode cX10_init 0 = .ok (.aload_n 0, 1) := dk_42 (dk_at dksX10_init_0 0 rfl rfl)
theorem dX10_init_1 : decode cX10_init 1 = .ok (.invokespecial 1, 3) := dk_183 0 1 (dk_at dksX10_init_0 1 rfl rfl)
theorem dX10_init_4 : decode cX10_init 4 = .ok (.aload_n 0, 1) := dk_42 (dk_at dksX10_init_0 4 rfl rfl)
theorem dX10_init_5 : decode cX10_init 5 = .ok (.iload_n 1, 1) := dk_27 (dk_at dksX10_init_0 5 rfl rfl)
theorem dX10_init_6 : decode cX10_init 6 = .ok (.putfield 7, 3) := dk_181 0 7 (dk_at dksX10_init_0 6 rfl rfl)
theorem dX10_init_9 : decode cX10_init 9 = .ok (.return_, 1) := dk_177 (dk_at dksX10_init_0 9 rfl rfl)
abbrev cX10_of : ByteArray := prog_19_method_2_code
def yX10_of : MethodName := ⟨RX10, "of", "(LWeatherWages$Ask;)I"⟩
theorem dX10_of_0 : decode cX10_of 0 = .ok (.aload_n 0, 1) := by decide +kernel
theorem dX10_of_1 : decode cX10_of 1 = .ok (.getfield 7, 3) := by decide +kernel
theorem dX10_of_4 : decode cX10_of 4 = .ok (.ireturn, 1) := by decide +kernel
theorem q170 : (Jvm.Cond.initialized "WeatherWages$Value") ∈ lw_all := lw_g (lw_at lw_m1 30 rfl) rfl
theorem q941 : (Jvm.Cond.selects "WeatherWages$Value" ({ cls := "java/lang/Object", name := "getClass", desc := "()Ljava/lang/Class;" } : Jvm.MethodName) ({ cls := "java/lang/Object", name := "getClass", desc := "()Ljava/lang/Class;" } : Jvm.MethodName)) ∈ lw_all := lw_g (lw_at lw_m4 81 rfl) rfl
theorem q1193 : (Jvm.Cond.instantiable "WeatherWages$Value" (1 : Nat)) ∈ lw_all := lw_g (lw_at lw_m5 93 rfl) rfl
theorem q1195 : (Jvm.Cond.instanceMethod ({ cls := "WeatherWages$Value", name := "<init>", desc := "(I)V" } : Jvm.MethodName)) ∈ lw_all := lw_g (lw_at lw_m5 95 rfl) rfl
theorem q1196 : (Jvm.Cond.code ({ cls := "WeatherWages$Value", name := "<init>", desc := "(I)V" } : Jvm.MethodName) prog_19_method_1_code (2 : Nat) (Option.none : Option Jvm.ClassFile.FieldType)) ∈ lw_all := lw_g (lw_at lw_m5 96 rfl) rfl
theorem q1197 : (Jvm.Cond.methodLink "WeatherWages$Value" (1 : Nat) ({ cls := "java/lang/Object", name := "<init>", desc := "()V" } : Jvm.MethodName)) ∈ lw_all := lw_g (lw_at lw_m5 97 rfl) rfl
theorem q1198 : (Jvm.Cond.fieldLink "WeatherWages$Value" (7 : Nat) "WeatherWages$Value" "v" "I") ∈ lw_all := lw_g (lw_at lw_m5 98 rfl) rfl
theorem q1199 : (Jvm.Cond.laysFinal "WeatherWages$Value" "WeatherWages$Value" "v" "I") ∈ lw_all := lw_g (lw_at lw_m5 99 rfl) rfl
theorem q1200 : (Jvm.Cond.soleField "WeatherWages$Value" "v") ∈ lw_all := lw_g (lw_at lw_m5 100 rfl) rfl
theorem q1201 : (Jvm.Cond.superclass "WeatherWages$Value" "java/lang/Object") ∈ lw_all := lw_g (lw_at lw_m5 101 rfl) rfl
theorem q1317 : (Jvm.Cond.castable "WeatherWages$Value" "WeatherWages$Node") ∈ lw_tbl := lw_at lw_m5 217 rfl
theorem q1318 : (Jvm.Cond.selects "WeatherWages$Value" ({ cls := "WeatherWages$Node", name := "of", desc := "(LWeatherWages$Ask;)I" } : Jvm.MethodName) ({ cls := "WeatherWages$Value", name := "of", desc := "(LWeatherWages$Ask;)I" } : Jvm.MethodName)) ∈ lw_all := lw_g (lw_at lw_m5 218 rfl) rfl
theorem q1319 : (Jvm.Cond.unhidden "WeatherWages$Value" "of" "(LWeatherWages$Ask;)I") ∈ lw_tbl := lw_at lw_m5 219 rfl
theorem q1320 : (Jvm.Cond.instanceMethod ({ cls := "WeatherWages$Value", name := "of", desc := "(LWeatherWages$Ask;)I" } : Jvm.MethodName)) ∈ lw_all := lw_g (lw_at lw_m5 220 rfl) rfl
theorem q1321 : (Jvm.Cond.publicMethod ({ cls := "WeatherWages$Value", name := "of", desc := "(LWeatherWages$Ask;)I" } : Jvm.MethodName)) ∈ lw_tbl := lw_at lw_m5 221 rfl
theorem q1322 : (Jvm.Cond.code ({ cls := "WeatherWages$Value", name := "of", desc := "(LWeatherWages$Ask;)I" } : Jvm.MethodName) prog_19_method_2_code (2 : Nat) (Option.some Jvm.ClassFile.FieldType.int)) ∈ lw_all := lw_g (lw_at lw_m5 222 rfl) rfl
theorem q2480 : (Jvm.Cond.castable "WeatherWages$Value" "java/lang/Object") ∈ lw_tbl := lw_at lw_m10 180 rfl
theorem in_X10 : ∀ w ∈ wsX100, w ∈ lw_all := lw_in wsX100 [1199] (by decide +kernel) (by decide +kernel)
/-! WeatherWages$Pair -/
set_option maxRecDepth 100000
def RX11 : String := "WeatherWages$Pair"
def TX11 : u_T := fun k => match k with
  | 0 => ("WeatherWages$Pair", "left", "LWeatherWages$Node;", true)
  | 1 => ("WeatherWages$Pair", "right", "LWeatherWages$Node;", true)
  | _ => ("WeatherWages$Pair", "sign", "C", true)
def tyX11 : Nat → FieldType := fun k => match k with
  | 0 => .object "WeatherWages$Node"
  | 1 => .object "WeatherWages$Node"
  | _ => .char
abbrev wsX110 : List Cond := u_ws RX11 TX11 3
theorem nmX11 : ∀ a, a < 3 → ∀ b, b < 3 → a ≠ b → (TX11 a).2.1 ≠ (TX11 b).2.1 := by decide +kernel
theorem tyX11_ok : ∀ k, k < 3 → parseFieldDescriptor (TX11 k).2.2.1 = some (tyX11 k) := by decide +kernel
abbrev cX11_init : ByteArray := prog_14_method_1_code
def yX11_init : MethodName := ⟨RX11, "<init>", "(LWeatherWages$Node;LWeatherWages$Node;C)V"⟩
def dkwX11_init_0 : List UInt8 := [42, 183, 0, 1, 42, 43, 181, 0, 7, 42, 44, 181, 0, 13, 42, 29, 181, 0, 16, 177]
abbrev dktX11_init_0 : List UInt8 := dkwX11_init_0 ++ []
theorem dksX11_init_0 : cX11_init.data.toList.drop 0 = dktX11_init_0 := by decide +kernel
theorem dX11_init_0 : decode cX11_init 0 = .ok (.aload_n 0, 1) := dk_42 (dk_at dksX11_init_0 0 rfl rfl)
theorem dX11_init_1 : decode cX11_init 1 = .ok (.invokespecial 1, 3) := dk_183 0 1 (dk_at dksX11_init_0 1 rfl rfl)
theorem dX11_init_4 : decode cX11_init 4 = .ok (.aload_n 0, 1) := dk_42 (dk_at dksX11_init_0 4 rfl rfl)
theorem dX11_init_5 : decode cX11_init 5 = .ok (.aload_n 1, 1) := dk_43 (dk_at dksX11_init_0 5 rfl rfl)
theorem dX11_init_6 : decode cX11_init 6 = .ok (.putfield 7, 3) := dk_181 0 7 (dk_at dksX11_init_0 6 rfl rfl)
theorem dX11_init_9 : decode cX11_init 9 = .ok (.aload_n 0, 1) := dk_42 (dk_at dksX11_init_0 9 rfl rfl)
theorem dX11_init_10 : decode cX11_init 10 = .ok (.aload_n 2, 1) := dk_44 (dk_at dksX11_init_0 10 rfl rfl)
theorem dX11_init_11 : decode cX11_init 11 = .ok (.putfield 13, 3) := dk_181 0 13 (dk_at dksX11_init_0 11 rfl rfl)
theorem dX11_init_14 : decode cX11_init 14 = .ok (.aload_n 0, 1) := dk_42 (dk_at dksX11_init_0 14 rfl rfl)
theorem dX11_init_15 : decode cX11_init 15 = .ok (.iload_n 3, 1) := dk_29 (dk_at dksX11_init_0 15 rfl rfl)
theorem dX11_init_16 : decode cX11_init 16 = .ok (.putfield 16, 3) := dk_181 0 16 (dk_at dksX11_init_0 16 rfl rfl)
theorem dX11_init_19 : decode cX11_init 19 = .ok (.return_, 1) := dk_177 (dk_at dksX11_init_0 19 rfl rfl)
abbrev cX11_of : ByteArray := prog_14_method_2_code
def yX11_of : MethodName := ⟨RX11, "of", "(LWeatherWages$Ask;)I"⟩
def dkwX11_of_7 : List UInt8 := [167, 0, 4, 3, 172]
abbrev dktX11_of_7 : List UInt8 := dkwX11_of_7 ++ []
def dkwX11_of_6 : List UInt8 := [153, 0, 11, 29, 153, 0, 7, 4, 167, 0, 4, 3, 172, 28, 154, 0, 7, 29, 153, 0, 7, 4]
abbrev dktX11_of_6 : List UInt8 := dkwX11_of_6 ++ dktX11_of_7
def dkwX11_of_5 : List UInt8 := [29, 164, 0, 7, 4, 167, 0, 4, 3, 172, 28, 29, 160, 0, 7, 4, 167, 0, 4, 3, 172, 28]
abbrev dktX11_of_5 : List UInt8 := dkwX11_of_5 ++ dktX11_of_6
def dkwX11_of_4 : List UInt8 := [29, 154, 0, 7, 3, 167, 0, 6, 28, 29, 112, 172, 28, 29, 162, 0, 7, 4, 167, 0, 4, 3, 172, 28]
abbrev dktX11_of_4 : List UInt8 := dkwX11_of_4 ++ dktX11_of_5
def dkwX11_of_3 : List UInt8 := [28, 29, 96, 172, 28, 29, 100, 172, 28, 29, 104, 172, 29, 154, 0, 7, 3, 167, 0, 6, 28, 29, 108, 172]
abbrev dktX11_of_3 : List UInt8 := dkwX11_of_3 ++ dktX11_of_4
def dkwX11_of_2 : List UInt8 := [170, 0, 0, 0, 0, 201, 0, 0, 0, 37, 0, 0, 0, 62, 0, 0, 0, 142, 0, 0, 0, 187, 0, 0, 0, 201, 0, 0, 0, 201, 0, 0, 0, 201, 0, 0, 0, 126, 0, 0, 0, 118, 0, 0, 0, 201, 0, 0, 0, 122, 0, 0, 0, 201, 0, 0, 0, 130, 0, 0, 0, 201, 0, 0, 0, 201, 0, 0, 0, 201, 0, 0, 0, 201, 0, 0, 0, 201, 0, 0, 0, 201, 0, 0, 0, 201, 0, 0, 0, 201, 0, 0, 0, 201, 0, 0, 0, 201, 0, 0, 0, 201, 0, 0, 0, 201, 0, 0, 0, 154, 0, 0, 0, 176, 0, 0, 0, 165]
abbrev dktX11_of_2 : List UInt8 := dkwX11_of_2 ++ dktX11_of_3
def dkwX11_of_1 : List UInt8 := [180, 0, 16]
abbrev dktX11_of_1 : List UInt8 := dkwX11_of_1 ++ dktX11_of_2
def dkwX11_of_0 : List UInt8 := [42, 180, 0, 7, 43, 185, 0, 20, 2, 0, 61, 42, 180, 0, 13, 43, 185, 0, 20, 2, 0, 62, 42]
abbrev dktX11_of_0 : List UInt8 := dkwX11_of_0 ++ dktX11_of_1
theorem dksX11_of_0 : cX11_of.data.toList.drop 0 = dktX11_of_0 := by decide +kernel
theorem dksX11_of_1 : cX11_of.data.toList.drop 23 = dktX11_of_1 := dk_seg dksX11_of_0 23 rfl rfl
theorem dksX11_of_2 : cX11_of.data.toList.drop 26 = dktX11_of_2 := dk_seg dksX11_of_1 3 rfl rfl
theorem dksX11_of_3 : cX11_of.data.toList.drop 144 = dktX11_of_3 := dk_seg dksX11_of_2 118 rfl rfl
theorem dksX11_of_4 : cX11_of.data.toList.drop 168 = dktX11_of_4 := dk_seg dksX11_of_3 24 rfl rfl
theorem dksX11_of_5 : cX11_of.data.toList.drop 192 = dktX11_of_5 := dk_seg dksX11_of_4 24 rfl rfl
theorem dksX11_of_6 : cX11_of.data.toList.drop 214 = dktX11_of_6 := dk_seg dksX11_of_5 22 rfl rfl
theorem dksX11_of_7 : cX11_of.data.toList.drop 236 = dktX11_of_7 := dk_seg dksX11_of_6 22 rfl rfl
theorem dX11_of_0 : decode cX11_of 0 = .ok (.aload_n 0, 1) := dk_42 (dk_at dksX11_of_0 0 rfl rfl)
theorem dX11_of_1 : decode cX11_of 1 = .ok (.getfield 7, 3) := dk_180 0 7 (dk_at dksX11_of_0 1 rfl rfl)
theorem dX11_of_4 : decode cX11_of 4 = .ok (.aload_n 1, 1) := dk_43 (dk_at dksX11_of_0 4 rfl rfl)
theorem dX11_of_5 : decode cX11_of 5 = .ok (.invokeinterface 20 2, 5) := by decide +kernel
theorem dX11_of_10 : decode cX11_of 10 = .ok (.istore_n 2, 1) := dk_61 (dk_at dksX11_of_0 10 rfl rfl)
theorem dX11_of_11 : decode cX11_of 11 = .ok (.aload_n 0, 1) := dk_42 (dk_at dksX11_of_0 11 rfl rfl)
theorem dX11_of_12 : decode cX11_of 12 = .ok (.getfield 13, 3) := dk_180 0 13 (dk_at dksX11_of_0 12 rfl rfl)
theorem dX11_of_15 : decode cX11_of 15 = .ok (.aload_n 1, 1) := dk_43 (dk_at dksX11_of_0 15 rfl rfl)
theorem dX11_of_16 : decode cX11_of 16 = .ok (.invokeinterface 20 2, 5) := by decide +kernel
theorem dX11_of_21 : decode cX11_of 21 = .ok (.istore_n 3, 1) := dk_62 (dk_at dksX11_of_0 21 rfl rfl)
theorem dX11_of_22 : decode cX11_of 22 = .ok (.aload_n 0, 1) := dk_42 (dk_at dksX11_of_0 22 rfl rfl)
theorem dX11_of_23 : decode cX11_of 23 = .ok (.getfield 16, 3) := dk_180 0 16 (dk_at dksX11_of_1 0 rfl rfl)
theorem dX11_of_26 : decode cX11_of 26 = .ok (.tableswitch 201 37 62 #[142, 187, 201, 201, 201, 126, 118, 201, 122, 201, 130, 201, 201, 201, 201, 201, 201, 201, 201, 201, 201, 201, 201, 154, 176, 165], 118) := by decide +kernel
theorem dX11_of_144 : decode cX11_of 144 = .ok (.iload_n 2, 1) := dk_28 (dk_at dksX11_of_3 0 rfl rfl)
theorem dX11_of_145 : decode cX11_of 145 = .ok (.iload_n 3, 1) := dk_29 (dk_at dksX11_of_3 1 rfl rfl)
theorem dX11_of_146 : decode cX11_of 146 = .ok (.iadd, 1) := dk_96 (dk_at dksX11_of_3 2 rfl rfl)
theorem dX11_of_147 : decode cX11_of 147 = .ok (.ireturn, 1) := dk_172 (dk_at dksX11_of_3 3 rfl rfl)
theorem dX11_of_148 : decode cX11_of 148 = .ok (.iload_n 2, 1) := dk_28 (dk_at dksX11_of_3 4 rfl rfl)
theorem dX11_of_149 : decode cX11_of 149 = .ok (.iload_n 3, 1) := dk_29 (dk_at dksX11_of_3 5 rfl rfl)
theorem dX11_of_150 : decode cX11_of 150 = .ok (.isub, 1) := dk_100 (dk_at dksX11_of_3 6 rfl rfl)
theorem dX11_of_151 : decode cX11_of 151 = .ok (.ireturn, 1) := dk_172 (dk_at dksX11_of_3 7 rfl rfl)
theorem dX11_of_152 : decode cX11_of 152 = .ok (.iload_n 2, 1) := dk_28 (dk_at dksX11_of_3 8 rfl rfl)
theorem dX11_of_153 : decode cX11_of 153 = .ok (.iload_n 3, 1) := dk_29 (dk_at dksX11_of_3 9 rfl rfl)
theorem dX11_of_154 : decode cX11_of 154 = .ok (.imul, 1) := dk_104 (dk_at dksX11_of_3 10 rfl rfl)
theorem dX11_of_155 : decode cX11_of 155 = .ok (.ireturn, 1) := dk_172 (dk_at dksX11_of_3 11 rfl rfl)
theorem dX11_of_156 : decode cX11_of 156 = .ok (.iload_n 3, 1) := dk_29 (dk_at dksX11_of_3 12 rfl rfl)
theorem dX11_of_157 : decode cX11_of 157 = .ok (.ifCond .ne 7, 3) := dk_154 0 7 (dk_at dksX11_of_3 13 rfl rfl)
theorem dX11_of_160 : decode cX11_of 160 = .ok (.iconst 0, 1) := dk_3 (dk_at dksX11_of_3 16 rfl rfl)
theorem dX11_of_161 : decode cX11_of 161 = .ok (.goto 6, 3) := dk_167 0 6 (dk_at dksX11_of_3 17 rfl rfl)
theorem dX11_of_164 : decode cX11_of 164 = .ok (.iload_n 2, 1) := dk_28 (dk_at dksX11_of_3 20 rfl rfl)
theorem dX11_of_165 : decode cX11_of 165 = .ok (.iload_n 3, 1) := dk_29 (dk_at dksX11_of_3 21 rfl rfl)
theorem dX11_of_166 : decode cX11_of 166 = .ok (.idiv, 1) := dk_108 (dk_at dksX11_of_3 22 rfl rfl)
theorem dX11_of_167 : decode cX11_of 167 = .ok (.ireturn, 1) := dk_172 (dk_at dksX11_of_3 23 rfl rfl)
theorem dX11_of_168 : decode cX11_of 168 = .ok (.iload_n 3, 1) := dk_29 (dk_at dksX11_of_4 0 rfl rfl)
theorem dX11_of_169 : decode cX11_of 169 = .ok (.ifCond .ne 7, 3) := dk_154 0 7 (dk_at dksX11_of_4 1 rfl rfl)
theorem dX11_of_172 : decode cX11_of 172 = .ok (.iconst 0, 1) := dk_3 (dk_at dksX11_of_4 4 rfl rfl)
theorem dX11_of_173 : decode cX11_of 173 = .ok (.goto 6, 3) := dk_167 0 6 (dk_at dksX11_of_4 5 rfl rfl)
theorem dX11_of_176 : decode cX11_of 176 = .ok (.iload_n 2, 1) := dk_28 (dk_at dksX11_of_4 8 rfl rfl)
theorem dX11_of_177 : decode cX11_of 177 = .ok (.iload_n 3, 1) := dk_29 (dk_at dksX11_of_4 9 rfl rfl)
theorem dX11_of_178 : decode cX11_of 178 = .ok (.irem, 1) := dk_112 (dk_at dksX11_of_4 10 rfl rfl)
theorem dX11_of_179 : decode cX11_of 179 = .ok (.ireturn, 1) := dk_172 (dk_at dksX11_of_4 11 rfl rfl)
theorem dX11_of_180 : decode cX11_of 180 = .ok (.iload_n 2, 1) := dk_28 (dk_at dksX11_of_4 12 rfl rfl)
theorem dX11_of_181 : decode cX11_of 181 = .ok (.iload_n 3, 1) := dk_29 (dk_at dksX11_of_4 13 rfl rfl)
theorem dX11_of_182 : decode cX11_of 182 = .ok (.if_icmp .ge 7, 3) := dk_162 0 7 (dk_at dksX11_of_4 14 rfl rfl)
theorem dX11_of_185 : decode cX11_of 185 = .ok (.iconst 1, 1) := dk_4 (dk_at dksX11_of_4 17 rfl rfl)
theorem dX11_of_186 : decode cX11_of 186 = .ok (.goto 4, 3) := dk_167 0 4 (dk_at dksX11_of_4 18 rfl rfl)
theorem dX11_of_189 : decode cX11_of 189 = .ok (.iconst 0, 1) := dk_3 (dk_at dksX11_of_4 21 rfl rfl)
theorem dX11_of_190 : decode cX11_of 190 = .ok (.ireturn, 1) := dk_172 (dk_at dksX11_of_4 22 rfl rfl)
theorem dX11_of_191 : decode cX11_of 191 = .ok (.iload_n 2, 1) := dk_28 (dk_at dksX11_of_4 23 rfl rfl)
theorem dX11_of_192 : decode cX11_of 192 = .ok (.iload_n 3, 1) := dk_29 (dk_at dksX11_of_5 0 rfl rfl)
theorem dX11_of_193 : decode cX11_of 193 = .ok (.if_icmp .le 7, 3) := dk_164 0 7 (dk_at dksX11_of_5 1 rfl rfl)
theorem dX11_of_196 : decode cX11_of 196 = .ok (.iconst 1, 1) := dk_4 (dk_at dksX11_of_5 4 rfl rfl)
theorem dX11_of_197 : decode cX11_of 197 = .ok (.goto 4, 3) := dk_167 0 4 (dk_at dksX11_of_5 5 rfl rfl)
theorem dX11_of_200 : decode cX11_of 200 = .ok (.iconst 0, 1) := dk_3 (dk_at dksX11_of_5 8 rfl rfl)
theorem dX11_of_201 : decode cX11_of 201 = .ok (.ireturn, 1) := dk_172 (dk_at dksX11_of_5 9 rfl rfl)
theorem dX11_of_202 : decode cX11_of 202 = .ok (.iload_n 2, 1) := dk_28 (dk_at dksX11_of_5 10 rfl rfl)
theorem dX11_of_203 : decode cX11_of 203 = .ok (.iload_n 3, 1) := dk_29 (dk_at dksX11_of_5 11 rfl rfl)
theorem dX11_of_204 : decode cX11_of 204 = .ok (.if_icmp .ne 7, 3) := dk_160 0 7 (dk_at dksX11_of_5 12 rfl rfl)
theorem dX11_of_207 : decode cX11_of 207 = .ok (.iconst 1, 1) := dk_4 (dk_at dksX11_of_5 15 rfl rfl)
theorem dX11_of_208 : decode cX11_of 208 = .ok (.goto 4, 3) := dk_167 0 4 (dk_at dksX11_of_5 16 rfl rfl)
theorem dX11_of_211 : decode cX11_of 211 = .ok (.iconst 0, 1) := dk_3 (dk_at dksX11_of_5 19 rfl rfl)
theorem dX11_of_212 : decode cX11_of 212 = .ok (.ireturn, 1) := dk_172 (dk_at dksX11_of_5 20 rfl rfl)
theorem dX11_of_213 : decode cX11_of 213 = .ok (.iload_n 2, 1) := dk_28 (dk_at dksX11_of_5 21 rfl rfl)
theorem dX11_of_214 : decode cX11_of 214 = .ok (.ifCond .eq 11, 3) := dk_153 0 11 (dk_at dksX11_of_6 0 rfl rfl)
theorem dX11_of_217 : decode cX11_of 217 = .ok (.iload_n 3, 1) := dk_29 (dk_at dksX11_of_6 3 rfl rfl)
theorem dX11_of_218 : decode cX11_of 218 = .ok (.ifCond .eq 7, 3) := dk_153 0 7 (dk_at dksX11_of_6 4 rfl rfl)
theorem dX11_of_221 : decode cX11_of 221 = .ok (.iconst 1, 1) := dk_4 (dk_at dksX11_of_6 7 rfl rfl)
theorem dX11_of_222 : decode cX11_of 222 = .ok (.goto 4, 3) := dk_167 0 4 (dk_at dksX11_of_6 8 rfl rfl)
theorem dX11_of_225 : decode cX11_of 225 = .ok (.iconst 0, 1) := dk_3 (dk_at dksX11_of_6 11 rfl rfl)
theorem dX11_of_226 : decode cX11_of 226 = .ok (.ireturn, 1) := dk_172 (dk_at dksX11_of_6 12 rfl rfl)
theorem dX11_of_227 : decode cX11_of 227 = .ok (.iload_n 2, 1) := dk_28 (dk_at dksX11_of_6 13 rfl rfl)
theorem dX11_of_228 : decode cX11_of 228 = .ok (.ifCond .ne 7, 3) := dk_154 0 7 (dk_at dksX11_of_6 14 rfl rfl)
theorem dX11_of_231 : decode cX11_of 231 = .ok (.iload_n 3, 1) := dk_29 (dk_at dksX11_of_6 17 rfl rfl)
theorem dX11_of_232 : decode cX11_of 232 = .ok (.ifCond .eq 7, 3) := dk_153 0 7 (dk_at dksX11_of_6 18 rfl rfl)
theorem dX11_of_235 : decode cX11_of 235 = .ok (.iconst 1, 1) := dk_4 (dk_at dksX11_of_6 21 rfl rfl)
theorem dX11_of_236 : decode cX11_of 236 = .ok (.goto 4, 3) := dk_167 0 4 (dk_at dksX11_of_7 0 rfl rfl)
theorem dX11_of_239 : decode cX11_of 239 = .ok (.iconst 0, 1) := dk_3 (dk_at dksX11_of_7 3 rfl rfl)
theorem dX11_of_240 : decode cX11_of 240 = .ok (.ireturn, 1) := dk_172 (dk_at dksX11_of_7 4 rfl rfl)
theorem q171 : (Jvm.Cond.initialized "WeatherWages$Pair") ∈ lw_all := lw_g (lw_at lw_m1 31 rfl) rfl
theorem q936 : (Jvm.Cond.selects "WeatherWages$Pair" ({ cls := "java/lang/Object", name := "getClass", desc := "()Ljava/lang/Class;" } : Jvm.MethodName) ({ cls := "java/lang/Object", name := "getClass", desc := "()Ljava/lang/Class;" } : Jvm.MethodName)) ∈ lw_all := lw_g (lw_at lw_m4 76 rfl) rfl
theorem q1203 : (Jvm.Cond.instantiable "WeatherWages$Pair" (3 : Nat)) ∈ lw_all := lw_g (lw_at lw_m5 103 rfl) rfl
theorem q1205 : (Jvm.Cond.instanceMethod ({ cls := "WeatherWages$Pair", name := "<init>", desc := "(LWeatherWages$Node;LWeatherWages$Node;C)V" } : Jvm.MethodName)) ∈ lw_all := lw_g (lw_at lw_m5 105 rfl) rfl
theorem q1206 : (Jvm.Cond.code ({ cls := "WeatherWages$Pair", name := "<init>", desc := "(LWeatherWages$Node;LWeatherWages$Node;C)V" } : Jvm.MethodName) prog_14_method_1_code (4 : Nat) (Option.none : Option Jvm.ClassFile.FieldType)) ∈ lw_all := lw_g (lw_at lw_m5 106 rfl) rfl
theorem q1207 : (Jvm.Cond.methodLink "WeatherWages$Pair" (1 : Nat) ({ cls := "java/lang/Object", name := "<init>", desc := "()V" } : Jvm.MethodName)) ∈ lw_all := lw_g (lw_at lw_m5 107 rfl) rfl
theorem q1208 : (Jvm.Cond.fieldLink "WeatherWages$Pair" (7 : Nat) "WeatherWages$Pair" "left" "LWeatherWages$Node;") ∈ lw_all := lw_g (lw_at lw_m5 108 rfl) rfl
theorem q1209 : (Jvm.Cond.fieldLink "WeatherWages$Pair" (13 : Nat) "WeatherWages$Pair" "right" "LWeatherWages$Node;") ∈ lw_all := lw_g (lw_at lw_m5 109 rfl) rfl
theorem q1210 : (Jvm.Cond.fieldLink "WeatherWages$Pair" (16 : Nat) "WeatherWages$Pair" "sign" "C") ∈ lw_all := lw_g (lw_at lw_m5 110 rfl) rfl
theorem q1211 : (Jvm.Cond.laysFinal "WeatherWages$Pair" "WeatherWages$Pair" "left" "LWeatherWages$Node;") ∈ lw_all := lw_g (lw_at lw_m5 111 rfl) rfl
theorem q1212 : (Jvm.Cond.soleField "WeatherWages$Pair" "left") ∈ lw_all := lw_g (lw_at lw_m5 112 rfl) rfl
theorem q1213 : (Jvm.Cond.laysFinal "WeatherWages$Pair" "WeatherWages$Pair" "right" "LWeatherWages$Node;") ∈ lw_all := lw_g (lw_at lw_m5 113 rfl) rfl
theorem q1214 : (Jvm.Cond.soleField "WeatherWages$Pair" "right") ∈ lw_all := lw_g (lw_at lw_m5 114 rfl) rfl
theorem q1215 : (Jvm.Cond.laysFinal "WeatherWages$Pair" "WeatherWages$Pair" "sign" "C") ∈ lw_all := lw_g (lw_at lw_m5 115 rfl) rfl
theorem q1216 : (Jvm.Cond.soleField "WeatherWages$Pair" "sign") ∈ lw_all := lw_g (lw_at lw_m5 116 rfl) rfl
theorem q1217 : (Jvm.Cond.superclass "WeatherWages$Pair" "java/lang/Object") ∈ lw_all := lw_g (lw_at lw_m5 117 rfl) rfl
theorem q1309 : (Jvm.Cond.castable "WeatherWages$Pair" "WeatherWages$Node") ∈ lw_tbl := lw_at lw_m5 209 rfl
theorem q1310 : (Jvm.Cond.selects "WeatherWages$Pair" ({ cls := "WeatherWages$Node", name := "of", desc := "(LWeatherWages$Ask;)I" } : Jvm.MethodName) ({ cls := "WeatherWages$Pair", name := "of", desc := "(LWeatherWages$Ask;)I" } : Jvm.MethodName)) ∈ lw_all := lw_g (lw_at lw_m5 210 rfl) rfl
theorem q1311 : (Jvm.Cond.unhidden "WeatherWages$Pair" "of" "(LWeatherWages$Ask;)I") ∈ lw_tbl := lw_at lw_m5 211 rfl
theorem q1312 : (Jvm.Cond.instanceMethod ({ cls := "WeatherWages$Pair", name := "of", desc := "(LWeatherWages$Ask;)I" } : Jvm.MethodName)) ∈ lw_all := lw_g (lw_at lw_m5 212 rfl) rfl
theorem q1313 : (Jvm.Cond.publicMethod ({ cls := "WeatherWages$Pair", name := "of", desc := "(LWeatherWages$Ask;)I" } : Jvm.MethodName)) ∈ lw_tbl := lw_at lw_m5 213 rfl
theorem q1314 : (Jvm.Cond.code ({ cls := "WeatherWages$Pair", name := "of", desc := "(LWeatherWages$Ask;)I" } : Jvm.MethodName) prog_14_method_2_code (4 : Nat) (Option.some Jvm.ClassFile.FieldType.int)) ∈ lw_all := lw_g (lw_at lw_m5 214 rfl) rfl
theorem q1315 : (Jvm.Cond.interfaceEntry "WeatherWages$Pair" (20 : Nat)) ∈ lw_tbl := lw_at lw_m5 215 rfl
theorem q1316 : (Jvm.Cond.methodLink "WeatherWages$Pair" (20 : Nat) ({ cls := "WeatherWages$Node", name := "of", desc := "(LWeatherWages$Ask;)I" } : Jvm.MethodName)) ∈ lw_all := lw_g (lw_at lw_m5 216 rfl) rfl
theorem q2481 : (Jvm.Cond.castable "WeatherWages$Pair" "java/lang/Object") ∈ lw_tbl := lw_at lw_m10 181 rfl
theorem in_X11 : ∀ w ∈ wsX110, w ∈ lw_all := lw_in wsX110 [1211, 1213, 1215] (by decide +kernel) (by decide +kernel)
/-! WeatherWages$Sight -/
set_option maxRecDepth 100000
def RX12 : String := "WeatherWages$Sight"
def TX12 : u_T := fun k => match k with
  | 0 => ("WeatherWages$Sight", "man", "I", true)
  | 1 => ("WeatherWages$Sight", "other", "I", true)
  | 2 => ("WeatherWages$Sight", "number", "I", true)
  | 3 => ("WeatherWages$Sight", "told", "I", true)
  | 4 => ("WeatherWages$Sight", "is", "Z", true)
  | 5 => ("WeatherWages$Sight", "untold", "I", false)
  | _ => ("WeatherWages$Sight", "this$0", "LWeatherWages;", true)
def tyX12 : Nat → FieldType := fun k => match k with
  | 0 => .int
  | 1 => .int
  | 2 => .int
  | 3 => .int
  | 4 => .boolean
  | 5 => .int
  | _ => .object "WeatherWages"
abbrev wsX120 : List Cond := u_ws RX12 TX12 7
theorem nmX12 : ∀ a, a < 7 → ∀ b, b < 7 → a ≠ b → (TX12 a).2.1 ≠ (TX12 b).2.1 := by decide +kernel
theorem tyX12_ok : ∀ k, k < 7 → parseFieldDescriptor (TX12 k).2.2.1 = some (tyX12 k) := by decide +kernel
abbrev cX12_init : ByteArray := prog_18_method_1_code
def yX12_init : MethodName := ⟨RX12, "<init>", "(LWeatherWages;IIIZ)V"⟩
def dkwX12_init_1 : List UInt8 := [42, 21, 4, 181, 0, 25, 42, 21, 5, 181, 0, 28, 42, 43, 180, 0, 32, 181, 0, 35, 177]
abbrev dktX12_init_1 : List UInt8 := dkwX12_init_1 ++ []
def dkwX12_init_0 : List UInt8 := [42, 43, 181, 0, 3, 42, 183, 0, 9, 42, 2, 181, 0, 15, 42, 28, 181, 0, 19, 42, 29, 181, 0, 22]
abbrev dktX12_init_0 : List UInt8 := dkwX12_init_0 ++ dktX12_init_1
theorem dksX12_init_0 : cX12_init.data.toList.drop 0 = dktX12_init_0 := by decide +kernel
theorem dksX12_init_1 : cX12_init.data.toList.drop 24 = dktX12_init_1 := dk_seg dksX12_init_0 24 rfl rfl
theorem dX12_init_0 : decode cX12_init 0 = .ok (.aload_n 0, 1) := dk_42 (dk_at dksX12_init_0 0 rfl rfl)
theorem dX12_init_1 : decode cX12_init 1 = .ok (.aload_n 1, 1) := dk_43 (dk_at dksX12_init_0 1 rfl rfl)
theorem dX12_init_2 : decode cX12_init 2 = .ok (.putfield 3, 3) := dk_181 0 3 (dk_at dksX12_init_0 2 rfl rfl)
theorem dX12_init_5 : decode cX12_init 5 = .ok (.aload_n 0, 1) := dk_42 (dk_at dksX12_init_0 5 rfl rfl)
theorem dX12_init_6 : decode cX12_init 6 = .ok (.invokespecial 9, 3) := dk_183 0 9 (dk_at dksX12_init_0 6 rfl rfl)
theorem dX12_init_9 : decode cX12_init 9 = .ok (.aload_n 0, 1) := dk_42 (dk_at dksX12_init_0 9 rfl rfl)
theorem dX12_init_10 : decode cX12_init 10 = .ok (.iconst (-1), 1) := dk_2 (dk_at dksX12_init_0 10 rfl rfl)
theorem dX12_init_11 : decode cX12_init 11 = .ok (.putfield 15, 3) := dk_181 0 15 (dk_at dksX12_init_0 11 rfl rfl)
theorem dX12_init_14 : decode cX12_init 14 = .ok (.aload_n 0, 1) := dk_42 (dk_at dksX12_init_0 14 rfl rfl)
theorem dX12_init_15 : decode cX12_init 15 = .ok (.iload_n 2, 1) := dk_28 (dk_at dksX12_init_0 15 rfl rfl)
theorem dX12_init_16 : decode cX12_init 16 = .ok (.putfield 19, 3) := dk_181 0 19 (dk_at dksX12_init_0 16 rfl rfl)
theorem dX12_init_19 : decode cX12_init 19 = .ok (.aload_n 0, 1) := dk_42 (dk_at dksX12_init_0 19 rfl rfl)
theorem dX12_init_20 : decode cX12_init 20 = .ok (.iload_n 3, 1) := dk_29 (dk_at dksX12_init_0 20 rfl rfl)
theorem dX12_init_21 : decode cX12_init 21 = .ok (.putfield 22, 3) := dk_181 0 22 (dk_at dksX12_init_0 21 rfl rfl)
theorem dX12_init_24 : decode cX12_init 24 = .ok (.aload_n 0, 1) := dk_42 (dk_at dksX12_init_1 0 rfl rfl)
theorem dX12_init_25 : decode cX12_init 25 = .ok (.iload 4, 2) := dk_21 4 (dk_at dksX12_init_1 1 rfl rfl)
theorem dX12_init_27 : decode cX12_init 27 = .ok (.putfield 25, 3) := dk_181 0 25 (dk_at dksX12_init_1 3 rfl rfl)
theorem dX12_init_30 : decode cX12_init 30 = .ok (.aload_n 0, 1) := dk_42 (dk_at dksX12_init_1 6 rfl rfl)
theorem dX12_init_31 : decode cX12_init 31 = .ok (.iload 5, 2) := dk_21 5 (dk_at dksX12_init_1 7 rfl rfl)
theorem dX12_init_33 : decode cX12_init 33 = .ok (.putfield 28, 3) := dk_181 0 28 (dk_at dksX12_init_1 9 rfl rfl)
theorem dX12_init_36 : decode cX12_init 36 = .ok (.aload_n 0, 1) := dk_42 (dk_at dksX12_init_1 12 rfl rfl)
theorem dX12_init_37 : decode cX12_init 37 = .ok (.aload_n 1, 1) := dk_43 (dk_at dksX12_init_1 13 rfl rfl)
theorem dX12_init_38 : decode cX12_init 38 = .ok (.getfield 32, 3) := dk_180 0 32 (dk_at dksX12_init_1 14 rfl rfl)
theorem dX12_init_41 : decode cX12_init 41 = .ok (.putfield 35, 3) := dk_181 0 35 (dk_at dksX12_init_1 17 rfl rfl)
theorem dX12_init_44 : decode cX12_init 44 = .ok (.return_, 1) := dk_177 (dk_at dksX12_init_1 20 rfl rfl)
abbrev cX12_untell : ByteArray := prog_18_method_2_code
def yX12_untell : MethodName := ⟨RX12, "untell", "()Z"⟩
def dkwX12_untell_0 : List UInt8 := [42, 180, 0, 15, 155, 0, 5, 3, 172, 42, 42, 180, 0, 3, 180, 0, 32, 181, 0, 15, 4, 172]
abbrev dktX12_untell_0 : List UInt8 := dkwX12_untell_0 ++ []
theorem dksX12_untell_0 : cX12_untell.data.toList.drop 0 = dktX12_untell_0 := by decide +kernel
theorem dX12_untell_0 : decode cX12_untell 0 = .ok (.aload_n 0, 1) := dk_42 (dk_at dksX12_untell_0 0 rfl rfl)
theorem dX12_untell_1 : decode cX12_untell 1 = .ok (.getfield 15, 3) := dk_180 0 15 (dk_at dksX12_untell_0 1 rfl rfl)
theorem dX12_untell_4 : decode cX12_untell 4 = .ok (.ifCond .lt 5, 3) := dk_155 0 5 (dk_at dksX12_untell_0 4 rfl rfl)
theorem dX12_untell_7 : decode cX12_untell 7 = .ok (.iconst 0, 1) := dk_3 (dk_at dksX12_untell_0 7 rfl rfl)
theorem dX12_untell_8 : decode cX12_untell 8 = .ok (.ireturn, 1) := dk_172 (dk_at dksX12_untell_0 8 rfl rfl)
theorem dX12_untell_9 : decode cX12_untell 9 = .ok (.aload_n 0, 1) := dk_42 (dk_at dksX12_untell_0 9 rfl rfl)
theorem dX12_untell_10 : decode cX12_untell 10 = .ok (.aload_n 0, 1) := dk_42 (dk_at dksX12_untell_0 10 rfl rfl)
theorem dX12_untell_11 : decode cX12_untell 11 = .ok (.getfield 3, 3) := dk_180 0 3 (dk_at dksX12_untell_0 11 rfl rfl)
theorem dX12_untell_14 : decode cX12_untell 14 = .ok (.getfield 32, 3) := dk_180 0 32 (dk_at dksX12_untell_0 14 rfl rfl)
theorem dX12_untell_17 : decode cX12_untell 17 = .ok (.putfield 15, 3) := dk_181 0 15 (dk_at dksX12_untell_0 17 rfl rfl)
theorem dX12_untell_20 : decode cX12_untell 20 = .ok (.iconst 1, 1) := dk_4 (dk_at dksX12_untell_0 20 rfl rfl)
theorem dX12_untell_21 : decode cX12_untell 21 = .ok (.ireturn, 1) := dk_172 (dk_at dksX12_untell_0 21 rfl rfl)
abbrev cX12_isKnown : ByteArray := prog_18_method_3_code
def yX12_isKnown : MethodName := ⟨RX12, "isKnown", "(I)Z"⟩
def dkwX12_isKnown_1 : List UInt8 := [167, 0, 4, 3, 172]
abbrev dktX12_isKnown_1 : List UInt8 := dkwX12_isKnown_1 ++ []
def dkwX12_isKnown_0 : List UInt8 := [42, 180, 0, 35, 27, 163, 0, 22, 42, 180, 0, 15, 155, 0, 11, 42, 180, 0, 15, 27, 164, 0, 7, 4]
abbrev dktX12_isKnown_0 : List UInt8 := dkwX12_isKnown_0 ++ dktX12_isKnown_1
theorem dksX12_isKnown_0 : cX12_isKnown.data.toList.drop 0 = dktX12_isKnown_0 := by decide +kernel
theorem dksX12_isKnown_1 : cX12_isKnown.data.toList.drop 24 = dktX12_isKnown_1 := dk_seg dksX12_isKnown_0 24 rfl rfl
theorem dX12_isKnown_0 : decode cX12_isKnown 0 = .ok (.aload_n 0, 1) := dk_42 (dk_at dksX12_isKnown_0 0 rfl rfl)
theorem dX12_isKnown_1 : decode cX12_isKnown 1 = .ok (.getfield 35, 3) := dk_180 0 35 (dk_at dksX12_isKnown_0 1 rfl rfl)
theorem dX12_isKnown_4 : decode cX12_isKnown 4 = .ok (.iload_n 1, 1) := dk_27 (dk_at dksX12_isKnown_0 4 rfl rfl)
theorem dX12_isKnown_5 : decode cX12_isKnown 5 = .ok (.if_icmp .gt 22, 3) := dk_163 0 22 (dk_at dksX12_isKnown_0 5 rfl rfl)
theorem dX12_isKnown_8 : decode cX12_isKnown 8 = .ok (.aload_n 0, 1) := dk_42 (dk_at dksX12_isKnown_0 8 rfl rfl)
theorem dX12_isKnown_9 : decode cX12_isKnown 9 = .ok (.getfield 15, 3) := dk_180 0 15 (dk_at dksX12_isKnown_0 9 rfl rfl)
theorem dX12_isKnown_12 : decode cX12_isKnown 12 = .ok (.ifCond .lt 11, 3) := dk_155 0 11 (dk_at dksX12_isKnown_0 12 rfl rfl)
theorem dX12_isKnown_15 : decode cX12_isKnown 15 = .ok (.aload_n 0, 1) := dk_42 (dk_at dksX12_isKnown_0 15 rfl rfl)
theorem dX12_isKnown_16 : decode cX12_isKnown 16 = .ok (.getfield 15, 3) := dk_180 0 15 (dk_at dksX12_isKnown_0 16 rfl rfl)
theorem dX12_isKnown_19 : decode cX12_isKnown 19 = .ok (.iload_n 1, 1) := dk_27 (dk_at dksX12_isKnown_0 19 rfl rfl)
theorem dX12_isKnown_20 : decode cX12_isKnown 20 = .ok (.if_icmp .le 7, 3) := dk_164 0 7 (dk_at dksX12_isKnown_0 20 rfl rfl)
theorem dX12_isKnown_23 : decode cX12_isKnown 23 = .ok (.iconst 1, 1) := dk_4 (dk_at dksX12_isKnown_0 23 rfl rfl)
theorem dX12_isKnown_24 : decode cX12_isKnown 24 = .ok (.goto 4, 3) := dk_167 0 4 (dk_at dksX12_isKnown_1 0 rfl rfl)
theorem dX12_isKnown_27 : decode cX12_isKnown 27 = .ok (.iconst 0, 1) := dk_3 (dk_at dksX12_isKnown_1 3 rfl rfl)
theorem dX12_isKnown_28 : decode cX12_isKnown 28 = .ok (.ireturn, 1) := dk_172 (dk_at dksX12_isKnown_1 4 rfl rfl)
abbrev cX12_isSo : ByteArray := prog_18_method_4_code
def yX12_isSo : MethodName := ⟨RX12, "isSo", "()Z"⟩
def dkwX12_isSo_3 : List UInt8 := [160, 0, 7, 4, 167, 0, 4, 3, 172]
abbrev dktX12_isSo_3 : List UInt8 := dkwX12_isSo_3 ++ []
def dkwX12_isSo_2 : List UInt8 := [180, 0, 3, 42, 180, 0, 22, 182, 0, 38, 164, 0, 7, 4, 167, 0, 4, 3, 42, 180, 0, 28]
abbrev dktX12_isSo_2 : List UInt8 := dkwX12_isSo_2 ++ dktX12_isSo_3
def dkwX12_isSo_1 : List UInt8 := [161, 0, 7, 4, 167, 0, 37, 3, 167, 0, 33, 42, 180, 0, 3, 42, 180, 0, 19, 182, 0, 38, 42]
abbrev dktX12_isSo_1 : List UInt8 := dkwX12_isSo_1 ++ dktX12_isSo_2
def dkwX12_isSo_0 : List UInt8 := [42, 180, 0, 22, 156, 0, 29, 42, 180, 0, 3, 42, 180, 0, 19, 182, 0, 38, 42, 180, 0, 25]
abbrev dktX12_isSo_0 : List UInt8 := dkwX12_isSo_0 ++ dktX12_isSo_1
theorem dksX12_isSo_0 : cX12_isSo.data.toList.drop 0 = dktX12_isSo_0 := by decide +kernel
theorem dksX12_isSo_1 : cX12_isSo.data.toList.drop 22 = dktX12_isSo_1 := dk_seg dksX12_isSo_0 22 rfl rfl
theorem dksX12_isSo_2 : cX12_isSo.data.toList.drop 45 = dktX12_isSo_2 := dk_seg dksX12_isSo_1 23 rfl rfl
theorem dksX12_isSo_3 : cX12_isSo.data.toList.drop 67 = dktX12_isSo_3 := dk_seg dksX12_isSo_2 22 rfl rfl
theorem dX12_isSo_0 : decode cX12_isSo 0 = .ok (.aload_n 0, 1) := dk_42 (dk_at dksX12_isSo_0 0 rfl rfl)
theorem dX12_isSo_1 : decode cX12_isSo 1 = .ok (.getfield 22, 3) := dk_180 0 22 (dk_at dksX12_isSo_0 1 rfl rfl)
theorem dX12_isSo_4 : decode cX12_isSo 4 = .ok (.ifCond .ge 29, 3) := dk_156 0 29 (dk_at dksX12_isSo_0 4 rfl rfl)
theorem dX12_isSo_7 : decode cX12_isSo 7 = .ok (.aload_n 0, 1) := dk_42 (dk_at dksX12_isSo_0 7 rfl rfl)
theorem dX12_isSo_8 : decode cX12_isSo 8 = .ok (.getfield 3, 3) := dk_180 0 3 (dk_at dksX12_isSo_0 8 rfl rfl)
theorem dX12_isSo_11 : decode cX12_isSo 11 = .ok (.aload_n 0, 1) := dk_42 (dk_at dksX12_isSo_0 11 rfl rfl)
theorem dX12_isSo_12 : decode cX12_isSo 12 = .ok (.getfield 19, 3) := dk_180 0 19 (dk_at dksX12_isSo_0 12 rfl rfl)
theorem dX12_isSo_15 : decode cX12_isSo 15 = .ok (.invokevirtual 38, 3) := dk_182 0 38 (dk_at dksX12_isSo_0 15 rfl rfl)
theorem dX12_isSo_18 : decode cX12_isSo 18 = .ok (.aload_n 0, 1) := dk_42 (dk_at dksX12_isSo_0 18 rfl rfl)
theorem dX12_isSo_19 : decode cX12_isSo 19 = .ok (.getfield 25, 3) := dk_180 0 25 (dk_at dksX12_isSo_0 19 rfl rfl)
theorem dX12_isSo_22 : decode cX12_isSo 22 = .ok (.if_icmp .lt 7, 3) := dk_161 0 7 (dk_at dksX12_isSo_1 0 rfl rfl)
theorem dX12_isSo_25 : decode cX12_isSo 25 = .ok (.iconst 1, 1) := dk_4 (dk_at dksX12_isSo_1 3 rfl rfl)
theorem dX12_isSo_26 : decode cX12_isSo 26 = .ok (.goto 37, 3) := dk_167 0 37 (dk_at dksX12_isSo_1 4 rfl rfl)
theorem dX12_isSo_29 : decode cX12_isSo 29 = .ok (.iconst 0, 1) := dk_3 (dk_at dksX12_isSo_1 7 rfl rfl)
theorem dX12_isSo_30 : decode cX12_isSo 30 = .ok (.goto 33, 3) := dk_167 0 33 (dk_at dksX12_isSo_1 8 rfl rfl)
theorem dX12_isSo_33 : decode cX12_isSo 33 = .ok (.aload_n 0, 1) := dk_42 (dk_at dksX12_isSo_1 11 rfl rfl)
theorem dX12_isSo_34 : decode cX12_isSo 34 = .ok (.getfield 3, 3) := dk_180 0 3 (dk_at dksX12_isSo_1 12 rfl rfl)
theorem dX12_isSo_37 : decode cX12_isSo 37 = .ok (.aload_n 0, 1) := dk_42 (dk_at dksX12_isSo_1 15 rfl rfl)
theorem dX12_isSo_38 : decode cX12_isSo 38 = .ok (.getfield 19, 3) := dk_180 0 19 (dk_at dksX12_isSo_1 16 rfl rfl)
theorem dX12_isSo_41 : decode cX12_isSo 41 = .ok (.invokevirtual 38, 3) := dk_182 0 38 (dk_at dksX12_isSo_1 19 rfl rfl)
theorem dX12_isSo_44 : decode cX12_isSo 44 = .ok (.aload_n 0, 1) := dk_42 (dk_at dksX12_isSo_1 22 rfl rfl)
theorem dX12_isSo_45 : decode cX12_isSo 45 = .ok (.getfield 3, 3) := dk_180 0 3 (dk_at dksX12_isSo_2 0 rfl rfl)
theorem dX12_isSo_48 : decode cX12_isSo 48 = .ok (.aload_n 0, 1) := dk_42 (dk_at dksX12_isSo_2 3 rfl rfl)
theorem dX12_isSo_49 : decode cX12_isSo 49 = .ok (.getfield 22, 3) := dk_180 0 22 (dk_at dksX12_isSo_2 4 rfl rfl)
theorem dX12_isSo_52 : decode cX12_isSo 52 = .ok (.invokevirtual 38, 3) := dk_182 0 38 (dk_at dksX12_isSo_2 7 rfl rfl)
theorem dX12_isSo_55 : decode cX12_isSo 55 = .ok (.if_icmp .le 7, 3) := dk_164 0 7 (dk_at dksX12_isSo_2 10 rfl rfl)
theorem dX12_isSo_58 : decode cX12_isSo 58 = .ok (.iconst 1, 1) := dk_4 (dk_at dksX12_isSo_2 13 rfl rfl)
theorem dX12_isSo_59 : decode cX12_isSo 59 = .ok (.goto 4, 3) := dk_167 0 4 (dk_at dksX12_isSo_2 14 rfl rfl)
theorem dX12_isSo_62 : decode cX12_isSo 62 = .ok (.iconst 0, 1) := dk_3 (dk_at dksX12_isSo_2 17 rfl rfl)
theorem dX12_isSo_63 : decode cX12_isSo 63 = .ok (.aload_n 0, 1) := dk_42 (dk_at dksX12_isSo_2 18 rfl rfl)
theorem dX12_isSo_64 : decode cX12_isSo 64 = .ok (.getfield 28, 3) := dk_180 0 28 (dk_at dksX12_isSo_2 19 rfl rfl)
theorem dX12_isSo_67 : decode cX12_isSo 67 = .ok (.if_icmp .ne 7, 3) := dk_160 0 7 (dk_at dksX12_isSo_3 0 rfl rfl)
theorem dX12_isSo_70 : decode cX12_isSo 70 = .ok (.iconst 1, 1) := dk_4 (dk_at dksX12_isSo_3 3 rfl rfl)
theorem dX12_isSo_71 : decode cX12_isSo 71 = .ok (.goto 4, 3) := dk_167 0 4 (dk_at dksX12_isSo_3 4 rfl rfl)
theorem dX12_isSo_74 : decode cX12_isSo 74 = .ok (.iconst 0, 1) := dk_3 (dk_at dksX12_isSo_3 7 rfl rfl)
theorem dX12_isSo_75 : decode cX12_isSo 75 = .ok (.ireturn, 1) := dk_172 (dk_at dksX12_isSo_3 8 rfl rfl)
theorem q172 : (Jvm.Cond.initialized "WeatherWages$Sight") ∈ lw_all := lw_g (lw_at lw_m1 32 rfl) rfl
theorem q368 : (Jvm.Cond.fieldLinkNest "WeatherWages$Sight" (32 : Nat) "WeatherWages" "time" "I" "WeatherWages") ∈ lw_tbl := lw_at lw_m1 228 rfl
theorem q940 : (Jvm.Cond.selects "WeatherWages$Sight" ({ cls := "java/lang/Object", name := "getClass", desc := "()Ljava/lang/Class;" } : Jvm.MethodName) ({ cls := "java/lang/Object", name := "getClass", desc := "()Ljava/lang/Class;" } : Jvm.MethodName)) ∈ lw_all := lw_g (lw_at lw_m4 80 rfl) rfl
theorem q1589 : (Jvm.Cond.instantiable "WeatherWages$Sight" (7 : Nat)) ∈ lw_all := lw_g (lw_at lw_m7 9 rfl) rfl
theorem q1591 : (Jvm.Cond.instanceMethod ({ cls := "WeatherWages$Sight", name := "<init>", desc := "(LWeatherWages;IIIZ)V" } : Jvm.MethodName)) ∈ lw_all := lw_g (lw_at lw_m7 11 rfl) rfl
theorem q1592 : (Jvm.Cond.code ({ cls := "WeatherWages$Sight", name := "<init>", desc := "(LWeatherWages;IIIZ)V" } : Jvm.MethodName) prog_18_method_1_code (6 : Nat) (Option.none : Option Jvm.ClassFile.FieldType)) ∈ lw_all := lw_g (lw_at lw_m7 12 rfl) rfl
theorem q1593 : (Jvm.Cond.methodLink "WeatherWages$Sight" (9 : Nat) ({ cls := "java/lang/Object", name := "<init>", desc := "()V" } : Jvm.MethodName)) ∈ lw_all := lw_g (lw_at lw_m7 13 rfl) rfl
theorem q1594 : (Jvm.Cond.fieldLink "WeatherWages$Sight" (19 : Nat) "WeatherWages$Sight" "man" "I") ∈ lw_all := lw_g (lw_at lw_m7 14 rfl) rfl
theorem q1595 : (Jvm.Cond.fieldLink "WeatherWages$Sight" (22 : Nat) "WeatherWages$Sight" "other" "I") ∈ lw_all := lw_g (lw_at lw_m7 15 rfl) rfl
theorem q1596 : (Jvm.Cond.fieldLink "WeatherWages$Sight" (25 : Nat) "WeatherWages$Sight" "number" "I") ∈ lw_all := lw_g (lw_at lw_m7 16 rfl) rfl
theorem q1597 : (Jvm.Cond.fieldLink "WeatherWages$Sight" (35 : Nat) "WeatherWages$Sight" "told" "I") ∈ lw_all := lw_g (lw_at lw_m7 17 rfl) rfl
theorem q1598 : (Jvm.Cond.fieldLink "WeatherWages$Sight" (28 : Nat) "WeatherWages$Sight" "is" "Z") ∈ lw_all := lw_g (lw_at lw_m7 18 rfl) rfl
theorem q1599 : (Jvm.Cond.fieldLink "WeatherWages$Sight" (15 : Nat) "WeatherWages$Sight" "untold" "I") ∈ lw_all := lw_g (lw_at lw_m7 19 rfl) rfl
theorem q1600 : (Jvm.Cond.fieldLink "WeatherWages$Sight" (3 : Nat) "WeatherWages$Sight" "this$0" "LWeatherWages;") ∈ lw_all := lw_g (lw_at lw_m7 20 rfl) rfl
theorem q1601 : (Jvm.Cond.laysFinal "WeatherWages$Sight" "WeatherWages$Sight" "man" "I") ∈ lw_all := lw_g (lw_at lw_m7 21 rfl) rfl
theorem q1602 : (Jvm.Cond.soleField "WeatherWages$Sight" "man") ∈ lw_all := lw_g (lw_at lw_m7 22 rfl) rfl
theorem q1603 : (Jvm.Cond.laysFinal "WeatherWages$Sight" "WeatherWages$Sight" "other" "I") ∈ lw_all := lw_g (lw_at lw_m7 23 rfl) rfl
theorem q1604 : (Jvm.Cond.soleField "WeatherWages$Sight" "other") ∈ lw_all := lw_g (lw_at lw_m7 24 rfl) rfl
theorem q1605 : (Jvm.Cond.laysFinal "WeatherWages$Sight" "WeatherWages$Sight" "number" "I") ∈ lw_all := lw_g (lw_at lw_m7 25 rfl) rfl
theorem q1606 : (Jvm.Cond.soleField "WeatherWages$Sight" "number") ∈ lw_all := lw_g (lw_at lw_m7 26 rfl) rfl
theorem q1607 : (Jvm.Cond.laysFinal "WeatherWages$Sight" "WeatherWages$Sight" "told" "I") ∈ lw_all := lw_g (lw_at lw_m7 27 rfl) rfl
theorem q1608 : (Jvm.Cond.soleField "WeatherWages$Sight" "told") ∈ lw_all := lw_g (lw_at lw_m7 28 rfl) rfl
theorem q1609 : (Jvm.Cond.laysFinal "WeatherWages$Sight" "WeatherWages$Sight" "is" "Z") ∈ lw_all := lw_g (lw_at lw_m7 29 rfl) rfl
theorem q1610 : (Jvm.Cond.soleField "WeatherWages$Sight" "is") ∈ lw_all := lw_g (lw_at lw_m7 30 rfl) rfl
theorem q1611 : (Jvm.Cond.lays "WeatherWages$Sight" "WeatherWages$Sight" "untold" "I") ∈ lw_all := lw_g (lw_at lw_m7 31 rfl) rfl
theorem q1612 : (Jvm.Cond.soleField "WeatherWages$Sight" "untold") ∈ lw_all := lw_g (lw_at lw_m7 32 rfl) rfl
theorem q1613 : (Jvm.Cond.laysFinal "WeatherWages$Sight" "WeatherWages$Sight" "this$0" "LWeatherWages;") ∈ lw_all := lw_g (lw_at lw_m7 33 rfl) rfl
theorem q1614 : (Jvm.Cond.soleField "WeatherWages$Sight" "this$0") ∈ lw_all := lw_g (lw_at lw_m7 34 rfl) rfl
theorem q1615 : (Jvm.Cond.superclass "WeatherWages$Sight" "java/lang/Object") ∈ lw_all := lw_g (lw_at lw_m7 35 rfl) rfl
theorem q1630 : (Jvm.Cond.instanceMethod ({ cls := "WeatherWages$Sight", name := "untell", desc := "()Z" } : Jvm.MethodName)) ∈ lw_all := lw_g (lw_at lw_m7 50 rfl) rfl
theorem q1631 : (Jvm.Cond.selects "WeatherWages$Sight" ({ cls := "WeatherWages$Sight", name := "untell", desc := "()Z" } : Jvm.MethodName) ({ cls := "WeatherWages$Sight", name := "untell", desc := "()Z" } : Jvm.MethodName)) ∈ lw_all := lw_g (lw_at lw_m7 51 rfl) rfl
theorem q1632 : (Jvm.Cond.code ({ cls := "WeatherWages$Sight", name := "untell", desc := "()Z" } : Jvm.MethodName) prog_18_method_2_code (1 : Nat) (Option.some Jvm.ClassFile.FieldType.boolean)) ∈ lw_all := lw_g (lw_at lw_m7 52 rfl) rfl
theorem q1651 : (Jvm.Cond.instanceMethod ({ cls := "WeatherWages$Sight", name := "isKnown", desc := "(I)Z" } : Jvm.MethodName)) ∈ lw_all := lw_g (lw_at lw_m7 71 rfl) rfl
theorem q1652 : (Jvm.Cond.selects "WeatherWages$Sight" ({ cls := "WeatherWages$Sight", name := "isKnown", desc := "(I)Z" } : Jvm.MethodName) ({ cls := "WeatherWages$Sight", name := "isKnown", desc := "(I)Z" } : Jvm.MethodName)) ∈ lw_all := lw_g (lw_at lw_m7 72 rfl) rfl
theorem q1653 : (Jvm.Cond.code ({ cls := "WeatherWages$Sight", name := "isKnown", desc := "(I)Z" } : Jvm.MethodName) prog_18_method_3_code (2 : Nat) (Option.some Jvm.ClassFile.FieldType.boolean)) ∈ lw_all := lw_g (lw_at lw_m7 73 rfl) rfl
theorem q1655 : (Jvm.Cond.instanceMethod ({ cls := "WeatherWages$Sight", name := "isSo", desc := "()Z" } : Jvm.MethodName)) ∈ lw_all := lw_g (lw_at lw_m7 75 rfl) rfl
theorem q1656 : (Jvm.Cond.selects "WeatherWages$Sight" ({ cls := "WeatherWages$Sight", name := "isSo", desc := "()Z" } : Jvm.MethodName) ({ cls := "WeatherWages$Sight", name := "isSo", desc := "()Z" } : Jvm.MethodName)) ∈ lw_all := lw_g (lw_at lw_m7 76 rfl) rfl
theorem q1657 : (Jvm.Cond.code ({ cls := "WeatherWages$Sight", name := "isSo", desc := "()Z" } : Jvm.MethodName) prog_18_method_4_code (1 : Nat) (Option.some Jvm.ClassFile.FieldType.boolean)) ∈ lw_all := lw_g (lw_at lw_m7 77 rfl) rfl
theorem q1658 : (Jvm.Cond.methodLinkNest "WeatherWages$Sight" (38 : Nat) ({ cls := "WeatherWages", name := "bookOf", desc := "(I)I" } : Jvm.MethodName) "WeatherWages") ∈ lw_tbl := lw_at lw_m7 78 rfl
theorem q2482 : (Jvm.Cond.castable "WeatherWages$Sight" "java/lang/Object") ∈ lw_tbl := lw_at lw_m10 182 rfl
theorem in_X12 : ∀ w ∈ wsX120, w ∈ lw_all := lw_in wsX120 [1601, 1603, 1605, 1607, 1609, 1611, 1613] (by decide +kernel) (by decide +kernel)
/-! WeatherWages$Asked$1 -/
set_option maxRecDepth 100000
def RX13 : String := "WeatherWages$Asked$1"
abbrev cX13_of : ByteArray := prog_4_method_2_code
def yX13_of : MethodName := ⟨RX13, "of", "(LWeatherWages$Ask;)I"⟩
theorem dX13_of_0 : decode cX13_of 0 = .ok (.aload_n 1, 1) := by decide +kernel
theorem dX13_of_1 : decode cX13_of 1 = .ok (.getfield 7, 3) := by decide +kernel
theorem dX13_of_4 : decode cX13_of 4 = .ok (.ireturn, 1) := by decide +kernel
theorem q225 : (Jvm.Cond.fieldLink "WeatherWages$Asked$1" (7 : Nat) "WeatherWages$Ask" "first" "I") ∈ lw_all := lw_g (lw_at lw_m1 85 rfl) rfl
theorem q927 : (Jvm.Cond.selects "WeatherWages$Asked$1" ({ cls := "java/lang/Object", name := "getClass", desc := "()Ljava/lang/Class;" } : Jvm.MethodName) ({ cls := "java/lang/Object", name := "getClass", desc := "()Ljava/lang/Class;" } : Jvm.MethodName)) ∈ lw_all := lw_g (lw_at lw_m4 67 rfl) rfl
theorem q1265 : (Jvm.Cond.castable "WeatherWages$Asked$1" "WeatherWages$Node") ∈ lw_tbl := lw_at lw_m5 165 rfl
theorem q1266 : (Jvm.Cond.selects "WeatherWages$Asked$1" ({ cls := "WeatherWages$Node", name := "of", desc := "(LWeatherWages$Ask;)I" } : Jvm.MethodName) ({ cls := "WeatherWages$Asked$1", name := "of", desc := "(LWeatherWages$Ask;)I" } : Jvm.MethodName)) ∈ lw_all := lw_g (lw_at lw_m5 166 rfl) rfl
theorem q1267 : (Jvm.Cond.unhidden "WeatherWages$Asked$1" "of" "(LWeatherWages$Ask;)I") ∈ lw_tbl := lw_at lw_m5 167 rfl
theorem q1268 : (Jvm.Cond.instanceMethod ({ cls := "WeatherWages$Asked$1", name := "of", desc := "(LWeatherWages$Ask;)I" } : Jvm.MethodName)) ∈ lw_all := lw_g (lw_at lw_m5 168 rfl) rfl
theorem q1269 : (Jvm.Cond.publicMethod ({ cls := "WeatherWages$Asked$1", name := "of", desc := "(LWeatherWages$Ask;)I" } : Jvm.MethodName)) ∈ lw_tbl := lw_at lw_m5 169 rfl
theorem q1270 : (Jvm.Cond.code ({ cls := "WeatherWages$Asked$1", name := "of", desc := "(LWeatherWages$Ask;)I" } : Jvm.MethodName) prog_4_method_2_code (2 : Nat) (Option.some Jvm.ClassFile.FieldType.int)) ∈ lw_all := lw_g (lw_at lw_m5 170 rfl) rfl
theorem q2474 : (Jvm.Cond.castable "WeatherWages$Asked$1" "java/lang/Object") ∈ lw_tbl := lw_at lw_m10 174 rfl
/-! WeatherWages$Asked$2 -/
set_option maxRecDepth 100000
def RX14 : String := "WeatherWages$Asked$2"
abbrev cX14_of : ByteArray := prog_5_method_2_code
def yX14_of : MethodName := ⟨RX14, "of", "(LWeatherWages$Ask;)I"⟩
theorem dX14_of_0 : decode cX14_of 0 = .ok (.aload_n 1, 1) := by decide +kernel
theorem dX14_of_1 : decode cX14_of 1 = .ok (.getfield 7, 3) := by decide +kernel
theorem dX14_of_4 : decode cX14_of 4 = .ok (.ireturn, 1) := by decide +kernel
theorem q227 : (Jvm.Cond.fieldLink "WeatherWages$Asked$2" (7 : Nat) "WeatherWages$Ask" "second" "I") ∈ lw_all := lw_g (lw_at lw_m1 87 rfl) rfl
theorem q928 : (Jvm.Cond.selects "WeatherWages$Asked$2" ({ cls := "java/lang/Object", name := "getClass", desc := "()Ljava/lang/Class;" } : Jvm.MethodName) ({ cls := "java/lang/Object", name := "getClass", desc := "()Ljava/lang/Class;" } : Jvm.MethodName)) ∈ lw_all := lw_g (lw_at lw_m4 68 rfl) rfl
theorem q1271 : (Jvm.Cond.castable "WeatherWages$Asked$2" "WeatherWages$Node") ∈ lw_tbl := lw_at lw_m5 171 rfl
theorem q1272 : (Jvm.Cond.selects "WeatherWages$Asked$2" ({ cls := "WeatherWages$Node", name := "of", desc := "(LWeatherWages$Ask;)I" } : Jvm.MethodName) ({ cls := "WeatherWages$Asked$2", name := "of", desc := "(LWeatherWages$Ask;)I" } : Jvm.MethodName)) ∈ lw_all := lw_g (lw_at lw_m5 172 rfl) rfl
theorem q1273 : (Jvm.Cond.unhidden "WeatherWages$Asked$2" "of" "(LWeatherWages$Ask;)I") ∈ lw_tbl := lw_at lw_m5 173 rfl
theorem q1274 : (Jvm.Cond.instanceMethod ({ cls := "WeatherWages$Asked$2", name := "of", desc := "(LWeatherWages$Ask;)I" } : Jvm.MethodName)) ∈ lw_all := lw_g (lw_at lw_m5 174 rfl) rfl
theorem q1275 : (Jvm.Cond.publicMethod ({ cls := "WeatherWages$Asked$2", name := "of", desc := "(LWeatherWages$Ask;)I" } : Jvm.MethodName)) ∈ lw_tbl := lw_at lw_m5 175 rfl
theorem q1276 : (Jvm.Cond.code ({ cls := "WeatherWages$Asked$2", name := "of", desc := "(LWeatherWages$Ask;)I" } : Jvm.MethodName) prog_5_method_2_code (2 : Nat) (Option.some Jvm.ClassFile.FieldType.int)) ∈ lw_all := lw_g (lw_at lw_m5 176 rfl) rfl
theorem q2475 : (Jvm.Cond.castable "WeatherWages$Asked$2" "java/lang/Object") ∈ lw_tbl := lw_at lw_m10 175 rfl
/-! WeatherWages$Asked$3 -/
set_option maxRecDepth 100000
def RX15 : String := "WeatherWages$Asked$3"
abbrev cX15_of : ByteArray := prog_6_method_2_code
def yX15_of : MethodName := ⟨RX15, "of", "(LWeatherWages$Ask;)I"⟩
theorem dX15_of_0 : decode cX15_of 0 = .ok (.aload_n 1, 1) := by decide +kernel
theorem dX15_of_1 : decode cX15_of 1 = .ok (.getfield 7, 3) := by decide +kernel
theorem dX15_of_4 : decode cX15_of 4 = .ok (.ireturn, 1) := by decide +kernel
theorem q229 : (Jvm.Cond.fieldLink "WeatherWages$Asked$3" (7 : Nat) "WeatherWages$Ask" "third" "I") ∈ lw_all := lw_g (lw_at lw_m1 89 rfl) rfl
theorem q929 : (Jvm.Cond.selects "WeatherWages$Asked$3" ({ cls := "java/lang/Object", name := "getClass", desc := "()Ljava/lang/Class;" } : Jvm.MethodName) ({ cls := "java/lang/Object", name := "getClass", desc := "()Ljava/lang/Class;" } : Jvm.MethodName)) ∈ lw_all := lw_g (lw_at lw_m4 69 rfl) rfl
theorem q1277 : (Jvm.Cond.castable "WeatherWages$Asked$3" "WeatherWages$Node") ∈ lw_tbl := lw_at lw_m5 177 rfl
theorem q1278 : (Jvm.Cond.selects "WeatherWages$Asked$3" ({ cls := "WeatherWages$Node", name := "of", desc := "(LWeatherWages$Ask;)I" } : Jvm.MethodName) ({ cls := "WeatherWages$Asked$3", name := "of", desc := "(LWeatherWages$Ask;)I" } : Jvm.MethodName)) ∈ lw_all := lw_g (lw_at lw_m5 178 rfl) rfl
theorem q1279 : (Jvm.Cond.unhidden "WeatherWages$Asked$3" "of" "(LWeatherWages$Ask;)I") ∈ lw_tbl := lw_at lw_m5 179 rfl
theorem q1280 : (Jvm.Cond.instanceMethod ({ cls := "WeatherWages$Asked$3", name := "of", desc := "(LWeatherWages$Ask;)I" } : Jvm.MethodName)) ∈ lw_all := lw_g (lw_at lw_m5 180 rfl) rfl
theorem q1281 : (Jvm.Cond.publicMethod ({ cls := "WeatherWages$Asked$3", name := "of", desc := "(LWeatherWages$Ask;)I" } : Jvm.MethodName)) ∈ lw_tbl := lw_at lw_m5 181 rfl
theorem q1282 : (Jvm.Cond.code ({ cls := "WeatherWages$Asked$3", name := "of", desc := "(LWeatherWages$Ask;)I" } : Jvm.MethodName) prog_6_method_2_code (2 : Nat) (Option.some Jvm.ClassFile.FieldType.int)) ∈ lw_all := lw_g (lw_at lw_m5 182 rfl) rfl
theorem q2476 : (Jvm.Cond.castable "WeatherWages$Asked$3" "java/lang/Object") ∈ lw_tbl := lw_at lw_m10 176 rfl
/-! WeatherWages$Asked$4 -/
set_option maxRecDepth 100000
def RX16 : String := "WeatherWages$Asked$4"
abbrev cX16_of : ByteArray := prog_7_method_2_code
def yX16_of : MethodName := ⟨RX16, "of", "(LWeatherWages$Ask;)I"⟩
theorem dX16_of_0 : decode cX16_of 0 = .ok (.aload_n 1, 1) := by decide +kernel
theorem dX16_of_1 : decode cX16_of 1 = .ok (.getfield 7, 3) := by decide +kernel
theorem dX16_of_4 : decode cX16_of 4 = .ok (.ireturn, 1) := by decide +kernel
theorem q231 : (Jvm.Cond.fieldLink "WeatherWages$Asked$4" (7 : Nat) "WeatherWages$Ask" "crop" "I") ∈ lw_all := lw_g (lw_at lw_m1 91 rfl) rfl
theorem q930 : (Jvm.Cond.selects "WeatherWages$Asked$4" ({ cls := "java/lang/Object", name := "getClass", desc := "()Ljava/lang/Class;" } : Jvm.MethodName) ({ cls := "java/lang/Object", name := "getClass", desc := "()Ljava/lang/Class;" } : Jvm.MethodName)) ∈ lw_all := lw_g (lw_at lw_m4 70 rfl) rfl
theorem q1283 : (Jvm.Cond.castable "WeatherWages$Asked$4" "WeatherWages$Node") ∈ lw_tbl := lw_at lw_m5 183 rfl
theorem q1284 : (Jvm.Cond.selects "WeatherWages$Asked$4" ({ cls := "WeatherWages$Node", name := "of", desc := "(LWeatherWages$Ask;)I" } : Jvm.MethodName) ({ cls := "WeatherWages$Asked$4", name := "of", desc := "(LWeatherWages$Ask;)I" } : Jvm.MethodName)) ∈ lw_all := lw_g (lw_at lw_m5 184 rfl) rfl
theorem q1285 : (Jvm.Cond.unhidden "WeatherWages$Asked$4" "of" "(LWeatherWages$Ask;)I") ∈ lw_tbl := lw_at lw_m5 185 rfl
theorem q1286 : (Jvm.Cond.instanceMethod ({ cls := "WeatherWages$Asked$4", name := "of", desc := "(LWeatherWages$Ask;)I" } : Jvm.MethodName)) ∈ lw_all := lw_g (lw_at lw_m5 186 rfl) rfl
theorem q1287 : (Jvm.Cond.publicMethod ({ cls := "WeatherWages$Asked$4", name := "of", desc := "(LWeatherWages$Ask;)I" } : Jvm.MethodName)) ∈ lw_tbl := lw_at lw_m5 187 rfl
theorem q1288 : (Jvm.Cond.code ({ cls := "WeatherWages$Asked$4", name := "of", desc := "(LWeatherWages$Ask;)I" } : Jvm.MethodName) prog_7_method_2_code (2 : Nat) (Option.some Jvm.ClassFile.FieldType.int)) ∈ lw_all := lw_g (lw_at lw_m5 188 rfl) rfl
theorem q2477 : (Jvm.Cond.castable "WeatherWages$Asked$4" "java/lang/Object") ∈ lw_tbl := lw_at lw_m10 177 rfl
/-! WeatherWages$Asked$5 -/
set_option maxRecDepth 100000
def RX17 : String := "WeatherWages$Asked$5"
abbrev cX17_of : ByteArray := prog_8_method_2_code
def yX17_of : MethodName := ⟨RX17, "of", "(LWeatherWages$Ask;)I"⟩
theorem dX17_of_0 : decode cX17_of 0 = .ok (.aload_n 1, 1) := by decide +kernel
theorem dX17_of_1 : decode cX17_of 1 = .ok (.getfield 7, 3) := by decide +kernel
theorem dX17_of_4 : decode cX17_of 4 = .ok (.ireturn, 1) := by decide +kernel
theorem q233 : (Jvm.Cond.fieldLink "WeatherWages$Asked$5" (7 : Nat) "WeatherWages$Ask" "week" "I") ∈ lw_all := lw_g (lw_at lw_m1 93 rfl) rfl
theorem q931 : (Jvm.Cond.selects "WeatherWages$Asked$5" ({ cls := "java/lang/Object", name := "getClass", desc := "()Ljava/lang/Class;" } : Jvm.MethodName) ({ cls := "java/lang/Object", name := "getClass", desc := "()Ljava/lang/Class;" } : Jvm.MethodName)) ∈ lw_all := lw_g (lw_at lw_m4 71 rfl) rfl
theorem q1289 : (Jvm.Cond.castable "WeatherWages$Asked$5" "WeatherWages$Node") ∈ lw_tbl := lw_at lw_m5 189 rfl
theorem q1290 : (Jvm.Cond.selects "WeatherWages$Asked$5" ({ cls := "WeatherWages$Node", name := "of", desc := "(LWeatherWages$Ask;)I" } : Jvm.MethodName) ({ cls := "WeatherWages$Asked$5", name := "of", desc := "(LWeatherWages$Ask;)I" } : Jvm.MethodName)) ∈ lw_all := lw_g (lw_at lw_m5 190 rfl) rfl
theorem q1291 : (Jvm.Cond.unhidden "WeatherWages$Asked$5" "of" "(LWeatherWages$Ask;)I") ∈ lw_tbl := lw_at lw_m5 191 rfl
theorem q1292 : (Jvm.Cond.instanceMethod ({ cls := "WeatherWages$Asked$5", name := "of", desc := "(LWeatherWages$Ask;)I" } : Jvm.MethodName)) ∈ lw_all := lw_g (lw_at lw_m5 192 rfl) rfl
theorem q1293 : (Jvm.Cond.publicMethod ({ cls := "WeatherWages$Asked$5", name := "of", desc := "(LWeatherWages$Ask;)I" } : Jvm.MethodName)) ∈ lw_tbl := lw_at lw_m5 193 rfl
theorem q1294 : (Jvm.Cond.code ({ cls := "WeatherWages$Asked$5", name := "of", desc := "(LWeatherWages$Ask;)I" } : Jvm.MethodName) prog_8_method_2_code (2 : Nat) (Option.some Jvm.ClassFile.FieldType.int)) ∈ lw_all := lw_g (lw_at lw_m5 194 rfl) rfl
theorem q2478 : (Jvm.Cond.castable "WeatherWages$Asked$5" "java/lang/Object") ∈ lw_tbl := lw_at lw_m10 178 rfl
/-! WeatherWages$Asked$6 -/
set_option maxRecDepth 100000
def RX18 : String := "WeatherWages$Asked$6"
abbrev cX18_of : ByteArray := prog_9_method_2_code
def yX18_of : MethodName := ⟨RX18, "of", "(LWeatherWages$Ask;)I"⟩
theorem dX18_of_0 : decode cX18_of 0 = .ok (.aload_n 1, 1) := by decide +kernel
theorem dX18_of_1 : decode cX18_of 1 = .ok (.getfield 7, 3) := by decide +kernel
theorem dX18_of_4 : decode cX18_of 4 = .ok (.ireturn, 1) := by decide +kernel
theorem q235 : (Jvm.Cond.fieldLink "WeatherWages$Asked$6" (7 : Nat) "WeatherWages$Ask" "plot" "I") ∈ lw_all := lw_g (lw_at lw_m1 95 rfl) rfl
theorem q932 : (Jvm.Cond.selects "WeatherWages$Asked$6" ({ cls := "java/lang/Object", name := "getClass", desc := "()Ljava/lang/Class;" } : Jvm.MethodName) ({ cls := "java/lang/Object", name := "getClass", desc := "()Ljava/lang/Class;" } : Jvm.MethodName)) ∈ lw_all := lw_g (lw_at lw_m4 72 rfl) rfl
theorem q1295 : (Jvm.Cond.castable "WeatherWages$Asked$6" "WeatherWages$Node") ∈ lw_tbl := lw_at lw_m5 195 rfl
theorem q1296 : (Jvm.Cond.selects "WeatherWages$Asked$6" ({ cls := "WeatherWages$Node", name := "of", desc := "(LWeatherWages$Ask;)I" } : Jvm.MethodName) ({ cls := "WeatherWages$Asked$6", name := "of", desc := "(LWeatherWages$Ask;)I" } : Jvm.MethodName)) ∈ lw_all := lw_g (lw_at lw_m5 196 rfl) rfl
theorem q1297 : (Jvm.Cond.unhidden "WeatherWages$Asked$6" "of" "(LWeatherWages$Ask;)I") ∈ lw_tbl := lw_at lw_m5 197 rfl
theorem q1298 : (Jvm.Cond.instanceMethod ({ cls := "WeatherWages$Asked$6", name := "of", desc := "(LWeatherWages$Ask;)I" } : Jvm.MethodName)) ∈ lw_all := lw_g (lw_at lw_m5 198 rfl) rfl
theorem q1299 : (Jvm.Cond.publicMethod ({ cls := "WeatherWages$Asked$6", name := "of", desc := "(LWeatherWages$Ask;)I" } : Jvm.MethodName)) ∈ lw_tbl := lw_at lw_m5 199 rfl
theorem q1300 : (Jvm.Cond.code ({ cls := "WeatherWages$Asked$6", name := "of", desc := "(LWeatherWages$Ask;)I" } : Jvm.MethodName) prog_9_method_2_code (2 : Nat) (Option.some Jvm.ClassFile.FieldType.int)) ∈ lw_all := lw_g (lw_at lw_m5 200 rfl) rfl
theorem q2479 : (Jvm.Cond.castable "WeatherWages$Asked$6" "java/lang/Object") ∈ lw_tbl := lw_at lw_m10 179 rfl
/-! WeatherWages$Ask -/
set_option maxRecDepth 100000
def RX2 : String := "WeatherWages$Ask"
def TX2 : u_T := fun k => match k with
  | 0 => ("WeatherWages$Ask", "first", "I", false)
  | 1 => ("WeatherWages$Ask", "second", "I", false)
  | 2 => ("WeatherWages$Ask", "third", "I", false)
  | 3 => ("WeatherWages$Ask", "crop", "I", false)
  | 4 => ("WeatherWages$Ask", "week", "I", false)
  | _ => ("WeatherWages$Ask", "plot", "I", false)
def tyX2 : Nat → FieldType := fun k => match k with
  | 0 => .int
  | 1 => .int
  | 2 => .int
  | 3 => .int
  | 4 => .int
  | _ => .int
abbrev wsX20 : List Cond := u_ws RX2 TX2 6
theorem nmX2 : ∀ a, a < 6 → ∀ b, b < 6 → a ≠ b → (TX2 a).2.1 ≠ (TX2 b).2.1 := by decide +kernel
theorem tyX2_ok : ∀ k, k < 6 → parseFieldDescriptor (TX2 k).2.2.1 = some (tyX2 k) := by decide +kernel
abbrev cX2_init : ByteArray := prog_2_method_1_code
def yX2_init : MethodName := ⟨RX2, "<init>", "()V"⟩
theorem dX2_init_0 : decode cX2_init 0 = .ok (.aload_n 0, 1) := by decide +kernel
theorem dX2_init_1 : decode cX2_init 1 = .ok (.invokespecial 1, 3) := by decide +kernel
theorem dX2_init_4 : decode cX2_init 4 = .ok (.return_, 1) := by decide +kernel
theorem q146 : (Jvm.Cond.initialized "WeatherWages$Ask") ∈ lw_all := lw_g (lw_at lw_m1 6 rfl) rfl
theorem q220 : (Jvm.Cond.instantiable "WeatherWages$Ask" (6 : Nat)) ∈ lw_all := lw_g (lw_at lw_m1 80 rfl) rfl
theorem q222 : (Jvm.Cond.instanceMethod ({ cls := "WeatherWages$Ask", name := "<init>", desc := "()V" } : Jvm.MethodName)) ∈ lw_all := lw_g (lw_at lw_m1 82 rfl) rfl
theorem q223 : (Jvm.Cond.code ({ cls := "WeatherWages$Ask", name := "<init>", desc := "()V" } : Jvm.MethodName) prog_2_method_1_code (1 : Nat) (Option.none : Option Jvm.ClassFile.FieldType)) ∈ lw_all := lw_g (lw_at lw_m1 83 rfl) rfl
theorem q224 : (Jvm.Cond.methodLink "WeatherWages$Ask" (1 : Nat) ({ cls := "java/lang/Object", name := "<init>", desc := "()V" } : Jvm.MethodName)) ∈ lw_all := lw_g (lw_at lw_m1 84 rfl) rfl
theorem q237 : (Jvm.Cond.lays "WeatherWages$Ask" "WeatherWages$Ask" "first" "I") ∈ lw_all := lw_g (lw_at lw_m1 97 rfl) rfl
theorem q238 : (Jvm.Cond.soleField "WeatherWages$Ask" "first") ∈ lw_all := lw_g (lw_at lw_m1 98 rfl) rfl
theorem q239 : (Jvm.Cond.lays "WeatherWages$Ask" "WeatherWages$Ask" "second" "I") ∈ lw_all := lw_g (lw_at lw_m1 99 rfl) rfl
theorem q240 : (Jvm.Cond.soleField "WeatherWages$Ask" "second") ∈ lw_all := lw_g (lw_at lw_m1 100 rfl) rfl
theorem q241 : (Jvm.Cond.lays "WeatherWages$Ask" "WeatherWages$Ask" "third" "I") ∈ lw_all := lw_g (lw_at lw_m1 101 rfl) rfl
theorem q242 : (Jvm.Cond.soleField "WeatherWages$Ask" "third") ∈ lw_all := lw_g (lw_at lw_m1 102 rfl) rfl
theorem q243 : (Jvm.Cond.lays "WeatherWages$Ask" "WeatherWages$Ask" "crop" "I") ∈ lw_all := lw_g (lw_at lw_m1 103 rfl) rfl
theorem q244 : (Jvm.Cond.soleField "WeatherWages$Ask" "crop") ∈ lw_all := lw_g (lw_at lw_m1 104 rfl) rfl
theorem q245 : (Jvm.Cond.lays "WeatherWages$Ask" "WeatherWages$Ask" "week" "I") ∈ lw_all := lw_g (lw_at lw_m1 105 rfl) rfl
theorem q246 : (Jvm.Cond.soleField "WeatherWages$Ask" "week") ∈ lw_all := lw_g (lw_at lw_m1 106 rfl) rfl
theorem q247 : (Jvm.Cond.lays "WeatherWages$Ask" "WeatherWages$Ask" "plot" "I") ∈ lw_all := lw_g (lw_at lw_m1 107 rfl) rfl
theorem q248 : (Jvm.Cond.soleField "WeatherWages$Ask" "plot") ∈ lw_all := lw_g (lw_at lw_m1 108 rfl) rfl
theorem q249 : (Jvm.Cond.superclass "WeatherWages$Ask" "java/lang/Object") ∈ lw_all := lw_g (lw_at lw_m1 109 rfl) rfl
theorem q926 : (Jvm.Cond.selects "WeatherWages$Ask" ({ cls := "java/lang/Object", name := "getClass", desc := "()Ljava/lang/Class;" } : Jvm.MethodName) ({ cls := "java/lang/Object", name := "getClass", desc := "()Ljava/lang/Class;" } : Jvm.MethodName)) ∈ lw_all := lw_g (lw_at lw_m4 66 rfl) rfl
theorem q2463 : (Jvm.Cond.castable "WeatherWages$Ask" "java/lang/Object") ∈ lw_tbl := lw_at lw_m10 163 rfl
theorem in_X2 : ∀ w ∈ wsX20, w ∈ lw_all := lw_in wsX20 [237, 239, 241, 243, 245, 247] (by decide +kernel) (by decide +kernel)
/-! WeatherWages$Plots -/
set_option maxRecDepth 100000
def RX3 : String := "WeatherWages$Plots"
def TX3 : u_T := fun k => match k with
  | 0 => ("WeatherWages$Plots", "purse", "[I", true)
  | 1 => ("WeatherWages$Plots", "over", "[I", true)
  | 2 => ("WeatherWages$Plots", "crop", "[I", true)
  | 3 => ("WeatherWages$Plots", "spent", "[I", true)
  | 4 => ("WeatherWages$Plots", "week", "I", false)
  | _ => ("WeatherWages$Plots", "seed", "I", false)
def tyX3 : Nat → FieldType := fun k => match k with
  | 0 => .array .int
  | 1 => .array .int
  | 2 => .array .int
  | 3 => .array .int
  | 4 => .int
  | _ => .int
abbrev wsX30 : List Cond := u_ws RX3 TX3 6
theorem nmX3 : ∀ a, a < 6 → ∀ b, b < 6 → a ≠ b → (TX3 a).2.1 ≠ (TX3 b).2.1 := by decide +kernel
theorem tyX3_ok : ∀ k, k < 6 → parseFieldDescriptor (TX3 k).2.2.1 = some (tyX3 k) := by decide +kernel
abbrev cX3_init : ByteArray := prog_15_method_1_code
def yX3_init : MethodName := ⟨RX3, "<init>", "()V"⟩
def dkwX3_init_1 : List UInt8 := [181, 0, 18, 42, 8, 188, 10, 181, 0, 21, 177]
abbrev dktX3_init_1 : List UInt8 := dkwX3_init_1 ++ []
def dkwX3_init_0 : List UInt8 := [42, 183, 0, 3, 42, 16, 15, 188, 10, 181, 0, 9, 42, 16, 15, 188, 10, 181, 0, 15, 42, 8, 188, 10]
abbrev dktX3_init_0 : List UInt8 := dkwX3_init_0 ++ dktX3_init_1
theorem dksX3_init_0 : cX3_init.data.toList.drop 0 = dktX3_init_0 := by decide +kernel
theorem dksX3_init_1 : cX3_init.data.toList.drop 24 = dktX3_init_1 := dk_seg dksX3_init_0 24 rfl rfl
theorem dX3_init_0 : decode cX3_init 0 = .ok (.aload_n 0, 1) := dk_42 (dk_at dksX3_init_0 0 rfl rfl)
theorem dX3_init_1 : decode cX3_init 1 = .ok (.invokespecial 3, 3) := dk_183 0 3 (dk_at dksX3_init_0 1 rfl rfl)
theorem dX3_init_4 : decode cX3_init 4 = .ok (.aload_n 0, 1) := dk_42 (dk_at dksX3_init_0 4 rfl rfl)
theorem dX3_init_5 : decode cX3_init 5 = .ok (.bipush 15, 2) := dk_16 15 (dk_at dksX3_init_0 5 rfl rfl)
theorem dX3_init_7 : decode cX3_init 7 = .ok (.newarray .int, 2) := dk_188_10 (dk_at dksX3_init_0 7 rfl rfl)
theorem dX3_init_9 : decode cX3_init 9 = .ok (.putfield 9, 3) := dk_181 0 9 (dk_at dksX3_init_0 9 rfl rfl)
theorem dX3_init_12 : decode cX3_init 12 = .ok (.aload_n 0, 1) := dk_42 (dk_at dksX3_init_0 12 rfl rfl)
theorem dX3_init_13 : decode cX3_init 13 = .ok (.bipush 15, 2) := dk_16 15 (dk_at dksX3_init_0 13 rfl rfl)
theorem dX3_init_15 : decode cX3_init 15 = .ok (.newarray .int, 2) := dk_188_10 (dk_at dksX3_init_0 15 rfl rfl)
theorem dX3_init_17 : decode cX3_init 17 = .ok (.putfield 15, 3) := dk_181 0 15 (dk_at dksX3_init_0 17 rfl rfl)
theorem dX3_init_20 : decode cX3_init 20 = .ok (.aload_n 0, 1) := dk_42 (dk_at dksX3_init_0 20 rfl rfl)
theorem dX3_init_21 : decode cX3_init 21 = .ok (.iconst 5, 1) := dk_8 (dk_at dksX3_init_0 21 rfl rfl)
theorem dX3_init_22 : decode cX3_init 22 = .ok (.newarray .int, 2) := dk_188_10 (dk_at dksX3_init_0 22 rfl rfl)
theorem dX3_init_24 : decode cX3_init 24 = .ok (.putfield 18, 3) := dk_181 0 18 (dk_at dksX3_init_1 0 rfl rfl)
theorem dX3_init_27 : decode cX3_init 27 = .ok (.aload_n 0, 1) := dk_42 (dk_at dksX3_init_1 3 rfl rfl)
theorem dX3_init_28 : decode cX3_init 28 = .ok (.iconst 5, 1) := dk_8 (dk_at dksX3_init_1 4 rfl rfl)
theorem dX3_init_29 : decode cX3_init 29 = .ok (.newarray .int, 2) := dk_188_10 (dk_at dksX3_init_1 5 rfl rfl)
theorem dX3_init_31 : decode cX3_init 31 = .ok (.putfield 21, 3) := dk_181 0 21 (dk_at dksX3_init_1 7 rfl rfl)
theorem dX3_init_34 : decode cX3_init 34 = .ok (.return_, 1) := dk_177 (dk_at dksX3_init_1 10 rfl rfl)
abbrev cX3_begin : ByteArray := prog_15_method_2_code
def yX3_begin : MethodName := ⟨RX3, "begin", "(LWeatherWages$Book;)LWeatherWages$Plots;"⟩
def dkwX3_begin_5 : List UInt8 := [132, 2, 1, 167, 255, 141, 42, 3, 181, 0, 46, 42, 43, 180, 0, 49, 181, 0, 52, 42, 176]
abbrev dktX3_begin_5 : List UInt8 := dkwX3_begin_5 ++ []
def dkwX3_begin_4 : List UInt8 := [167, 0, 4, 3, 79, 42, 180, 0, 15, 6, 28, 104, 29, 96, 3, 79, 132, 3, 1, 167, 255, 196]
abbrev dktX3_begin_4 : List UInt8 := dkwX3_begin_4 ++ dktX3_begin_5
def dkwX3_begin_3 : List UInt8 := [182, 0, 30, 162, 0, 22, 43, 180, 0, 24, 28, 182, 0, 36, 192, 0, 40, 180, 0, 45, 29, 46]
abbrev dktX3_begin_3 : List UInt8 := dkwX3_begin_3 ++ dktX3_begin_4
def dkwX3_begin_2 : List UInt8 := [79, 3, 62, 29, 6, 162, 0, 61, 42, 180, 0, 9, 6, 28, 104, 29, 96, 28, 43, 180, 0, 24]
abbrev dktX3_begin_2 : List UInt8 := dkwX3_begin_2 ++ dktX3_begin_3
def dkwX3_begin_1 : List UInt8 := [180, 0, 24, 28, 182, 0, 36, 192, 0, 40, 180, 0, 42, 167, 0, 4, 3, 79, 42, 180, 0, 21, 28, 3]
abbrev dktX3_begin_1 : List UInt8 := dkwX3_begin_1 ++ dktX3_begin_2
def dkwX3_begin_0 : List UInt8 := [3, 61, 28, 8, 162, 0, 116, 42, 180, 0, 18, 28, 28, 43, 180, 0, 24, 182, 0, 30, 162, 0, 20, 43]
abbrev dktX3_begin_0 : List UInt8 := dkwX3_begin_0 ++ dktX3_begin_1
theorem dksX3_begin_0 : cX3_begin.data.toList.drop 0 = dktX3_begin_0 := by decide +kernel
theorem dksX3_begin_1 : cX3_begin.data.toList.drop 24 = dktX3_begin_1 := dk_seg dksX3_begin_0 24 rfl rfl
theorem dksX3_begin_2 : cX3_begin.data.toList.drop 48 = dktX3_begin_2 := dk_seg dksX3_begin_1 24 rfl rfl
theorem dksX3_begin_3 : cX3_begin.data.toList.drop 70 = dktX3_begin_3 := dk_seg dksX3_begin_2 22 rfl rfl
theorem dksX3_begin_4 : cX3_begin.data.toList.drop 92 = dktX3_begin_4 := dk_seg dksX3_begin_3 22 rfl rfl
theorem dksX3_begin_5 : cX3_begin.data.toList.drop 114 = dktX3_begin_5 := dk_seg dksX3_begin_4 22 rfl rfl
theorem dX3_begin_0 : decode cX3_begin 0 = .ok (.iconst 0, 1) := dk_3 (dk_at dksX3_begin_0 0 rfl rfl)
theorem dX3_begin_1 : decode cX3_begin 1 = .ok (.istore_n 2, 1) := dk_61 (dk_at dksX3_begin_0 1 rfl rfl)
theorem dX3_begin_2 : decode cX3_begin 2 = .ok (.iload_n 2, 1) := dk_28 (dk_at dksX3_begin_0 2 rfl rfl)
theorem dX3_begin_3 : decode cX3_begin 3 = .ok (.iconst 5, 1) := dk_8 (dk_at dksX3_begin_0 3 rfl rfl)
theorem dX3_begin_4 : decode cX3_begin 4 = .ok (.if_icmp .ge 116, 3) := dk_162 0 116 (dk_at dksX3_begin_0 4 rfl rfl)
theorem dX3_begin_7 : decode cX3_begin 7 = .ok (.aload_n 0, 1) := dk_42 (dk_at dksX3_begin_0 7 rfl rfl)
theorem dX3_begin_8 : decode cX3_begin 8 = .ok (.getfield 18, 3) := dk_180 0 18 (dk_at dksX3_begin_0 8 rfl rfl)
theorem dX3_begin_11 : decode cX3_begin 11 = .ok (.iload_n 2, 1) := dk_28 (dk_at dksX3_begin_0 11 rfl rfl)
theorem dX3_begin_12 : decode cX3_begin 12 = .ok (.iload_n 2, 1) := dk_28 (dk_at dksX3_begin_0 12 rfl rfl)
theorem dX3_begin_13 : decode cX3_begin 13 = .ok (.aload_n 1, 1) := dk_43 (dk_at dksX3_begin_0 13 rfl rfl)
theorem dX3_begin_14 : decode cX3_begin 14 = .ok (.getfield 24, 3) := dk_180 0 24 (dk_at dksX3_begin_0 14 rfl rfl)
theorem dX3_begin_17 : decode cX3_begin 17 = .ok (.invokevirtual 30, 3) := dk_182 0 30 (dk_at dksX3_begin_0 17 rfl rfl)
theorem dX3_begin_20 : decode cX3_begin 20 = .ok (.if_icmp .ge 20, 3) := dk_162 0 20 (dk_at dksX3_begin_0 20 rfl rfl)
theorem dX3_begin_23 : decode cX3_begin 23 = .ok (.aload_n 1, 1) := dk_43 (dk_at dksX3_begin_0 23 rfl rfl)
theorem dX3_begin_24 : decode cX3_begin 24 = .ok (.getfield 24, 3) := dk_180 0 24 (dk_at dksX3_begin_1 0 rfl rfl)
theorem dX3_begin_27 : decode cX3_begin 27 = .ok (.iload_n 2, 1) := dk_28 (dk_at dksX3_begin_1 3 rfl rfl)
theorem dX3_begin_28 : decode cX3_begin 28 = .ok (.invokevirtual 36, 3) := dk_182 0 36 (dk_at dksX3_begin_1 4 rfl rfl)
theorem dX3_begin_31 : decode cX3_begin 31 = .ok (.checkcast 40, 3) := dk_192 0 40 (dk_at dksX3_begin_1 7 rfl rfl)
theorem dX3_begin_34 : decode cX3_begin 34 = .ok (.getfield 42, 3) := dk_180 0 42 (dk_at dksX3_begin_1 10 rfl rfl)
theorem dX3_begin_37 : decode cX3_begin 37 = .ok (.goto 4, 3) := dk_167 0 4 (dk_at dksX3_begin_1 13 rfl rfl)
theorem dX3_begin_40 : decode cX3_begin 40 = .ok (.iconst 0, 1) := dk_3 (dk_at dksX3_begin_1 16 rfl rfl)
theorem dX3_begin_41 : decode cX3_begin 41 = .ok (.iastore, 1) := dk_79 (dk_at dksX3_begin_1 17 rfl rfl)
theorem dX3_begin_42 : decode cX3_begin 42 = .ok (.aload_n 0, 1) := dk_42 (dk_at dksX3_begin_1 18 rfl rfl)
theorem dX3_begin_43 : decode cX3_begin 43 = .ok (.getfield 21, 3) := dk_180 0 21 (dk_at dksX3_begin_1 19 rfl rfl)
theorem dX3_begin_46 : decode cX3_begin 46 = .ok (.iload_n 2, 1) := dk_28 (dk_at dksX3_begin_1 22 rfl rfl)
theorem dX3_begin_47 : decode cX3_begin 47 = .ok (.iconst 0, 1) := dk_3 (dk_at dksX3_begin_1 23 rfl rfl)
theorem dX3_begin_48 : decode cX3_begin 48 = .ok (.iastore, 1) := dk_79 (dk_at dksX3_begin_2 0 rfl rfl)
theorem dX3_begin_49 : decode cX3_begin 49 = .ok (.iconst 0, 1) := dk_3 (dk_at dksX3_begin_2 1 rfl rfl)
theorem dX3_begin_50 : decode cX3_begin 50 = .ok (.istore_n 3, 1) := dk_62 (dk_at dksX3_begin_2 2 rfl rfl)
theorem dX3_begin_51 : decode cX3_begin 51 = .ok (.iload_n 3, 1) := dk_29 (dk_at dksX3_begin_2 3 rfl rfl)
theorem dX3_begin_52 : decode cX3_begin 52 = .ok (.iconst 3, 1) := dk_6 (dk_at dksX3_begin_2 4 rfl rfl)
theorem dX3_begin_53 : decode cX3_begin 53 = .ok (.if_icmp .ge 61, 3) := dk_162 0 61 (dk_at dksX3_begin_2 5 rfl rfl)
theorem dX3_begin_56 : decode cX3_begin 56 = .ok (.aload_n 0, 1) := dk_42 (dk_at dksX3_begin_2 8 rfl rfl)
theorem dX3_begin_57 : decode cX3_begin 57 = .ok (.getfield 9, 3) := dk_180 0 9 (dk_at dksX3_begin_2 9 rfl rfl)
theorem dX3_begin_60 : decode cX3_begin 60 = .ok (.iconst 3, 1) := dk_6 (dk_at dksX3_begin_2 12 rfl rfl)
theorem dX3_begin_61 : decode cX3_begin 61 = .ok (.iload_n 2, 1) := dk_28 (dk_at dksX3_begin_2 13 rfl rfl)
theorem dX3_begin_62 : decode cX3_begin 62 = .ok (.imul, 1) := dk_104 (dk_at dksX3_begin_2 14 rfl rfl)
theorem dX3_begin_63 : decode cX3_begin 63 = .ok (.iload_n 3, 1) := dk_29 (dk_at dksX3_begin_2 15 rfl rfl)
theorem dX3_begin_64 : decode cX3_begin 64 = .ok (.iadd, 1) := dk_96 (dk_at dksX3_begin_2 16 rfl rfl)
theorem dX3_begin_65 : decode cX3_begin 65 = .ok (.iload_n 2, 1) := dk_28 (dk_at dksX3_begin_2 17 rfl rfl)
theorem dX3_begin_66 : decode cX3_begin 66 = .ok (.aload_n 1, 1) := dk_43 (dk_at dksX3_begin_2 18 rfl rfl)
theorem dX3_begin_67 : decode cX3_begin 67 = .ok (.getfield 24, 3) := dk_180 0 24 (dk_at dksX3_begin_2 19 rfl rfl)
theorem dX3_begin_70 : decode cX3_begin 70 = .ok (.invokevirtual 30, 3) := dk_182 0 30 (dk_at dksX3_begin_3 0 rfl rfl)
theorem dX3_begin_73 : decode cX3_begin 73 = .ok (.if_icmp .ge 22, 3) := dk_162 0 22 (dk_at dksX3_begin_3 3 rfl rfl)
theorem dX3_begin_76 : decode cX3_begin 76 = .ok (.aload_n 1, 1) := dk_43 (dk_at dksX3_begin_3 6 rfl rfl)
theorem dX3_begin_77 : decode cX3_begin 77 = .ok (.getfield 24, 3) := dk_180 0 24 (dk_at dksX3_begin_3 7 rfl rfl)
theorem dX3_begin_80 : decode cX3_begin 80 = .ok (.iload_n 2, 1) := dk_28 (dk_at dksX3_begin_3 10 rfl rfl)
theorem dX3_begin_81 : decode cX3_begin 81 = .ok (.invokevirtual 36, 3) := dk_182 0 36 (dk_at dksX3_begin_3 11 rfl rfl)
theorem dX3_begin_84 : decode cX3_begin 84 = .ok (.checkcast 40, 3) := dk_192 0 40 (dk_at dksX3_begin_3 14 rfl rfl)
theorem dX3_begin_87 : decode cX3_begin 87 = .ok (.getfield 45, 3) := dk_180 0 45 (dk_at dksX3_begin_3 17 rfl rfl)
theorem dX3_begin_90 : decode cX3_begin 90 = .ok (.iload_n 3, 1) := dk_29 (dk_at dksX3_begin_3 20 rfl rfl)
theorem dX3_begin_91 : decode cX3_begin 91 = .ok (.iaload, 1) := dk_46 (dk_at dksX3_begin_3 21 rfl rfl)
theorem dX3_begin_92 : decode cX3_begin 92 = .ok (.goto 4, 3) := dk_167 0 4 (dk_at dksX3_begin_4 0 rfl rfl)
theorem dX3_begin_95 : decode cX3_begin 95 = .ok (.iconst 0, 1) := dk_3 (dk_at dksX3_begin_4 3 rfl rfl)
theorem dX3_begin_96 : decode cX3_begin 96 = .ok (.iastore, 1) := dk_79 (dk_at dksX3_begin_4 4 rfl rfl)
theorem dX3_begin_97 : decode cX3_begin 97 = .ok (.aload_n 0, 1) := dk_42 (dk_at dksX3_begin_4 5 rfl rfl)
theorem dX3_begin_98 : decode cX3_begin 98 = .ok (.getfield 15, 3) := dk_180 0 15 (dk_at dksX3_begin_4 6 rfl rfl)
theorem dX3_begin_101 : decode cX3_begin 101 = .ok (.iconst 3, 1) := dk_6 (dk_at dksX3_begin_4 9 rfl rfl)
theorem dX3_begin_102 : decode cX3_begin 102 = .ok (.iload_n 2, 1) := dk_28 (dk_at dksX3_begin_4 10 rfl rfl)
theorem dX3_begin_103 : decode cX3_begin 103 = .ok (.imul, 1) := dk_104 (dk_at dksX3_begin_4 11 rfl rfl)
theorem dX3_begin_104 : decode cX3_begin 104 = .ok (.iload_n 3, 1) := dk_29 (dk_at dksX3_begin_4 12 rfl rfl)
theorem dX3_begin_105 : decode cX3_begin 105 = .ok (.iadd, 1) := dk_96 (dk_at dksX3_begin_4 13 rfl rfl)
theorem dX3_begin_106 : decode cX3_begin 106 = .ok (.iconst 0, 1) := dk_3 (dk_at dksX3_begin_4 14 rfl rfl)
theorem dX3_begin_107 : decode cX3_begin 107 = .ok (.iastore, 1) := dk_79 (dk_at dksX3_begin_4 15 rfl rfl)
theorem dX3_begin_108 : decode cX3_begin 108 = .ok (.iinc 3 1, 3) := dk_132 3 1 (dk_at dksX3_begin_4 16 rfl rfl)
theorem dX3_begin_111 : decode cX3_begin 111 = .ok (.goto (-60), 3) := dk_167 255 196 (dk_at dksX3_begin_4 19 rfl rfl)
theorem dX3_begin_114 : decode cX3_begin 114 = .ok (.iinc 2 1, 3) := dk_132 2 1 (dk_at dksX3_begin_5 0 rfl rfl)
theorem dX3_begin_117 : decode cX3_begin 117 = .ok (.goto (-115), 3) := dk_167 255 141 (dk_at dksX3_begin_5 3 rfl rfl)
theorem dX3_begin_120 : decode cX3_begin 120 = .ok (.aload_n 0, 1) := dk_42 (dk_at dksX3_begin_5 6 rfl rfl)
theorem dX3_begin_121 : decode cX3_begin 121 = .ok (.iconst 0, 1) := dk_3 (dk_at dksX3_begin_5 7 rfl rfl)
theorem dX3_begin_122 : decode cX3_begin 122 = .ok (.putfield 46, 3) := dk_181 0 46 (dk_at dksX3_begin_5 8 rfl rfl)
theorem dX3_begin_125 : decode cX3_begin 125 = .ok (.aload_n 0, 1) := dk_42 (dk_at dksX3_begin_5 11 rfl rfl)
theorem dX3_begin_126 : decode cX3_begin 126 = .ok (.aload_n 1, 1) := dk_43 (dk_at dksX3_begin_5 12 rfl rfl)
theorem dX3_begin_127 : decode cX3_begin 127 = .ok (.getfield 49, 3) := dk_180 0 49 (dk_at dksX3_begin_5 13 rfl rfl)
theorem dX3_begin_130 : decode cX3_begin 130 = .ok (.putfield 52, 3) := dk_181 0 52 (dk_at dksX3_begin_5 16 rfl rfl)
theorem dX3_begin_133 : decode cX3_begin 133 = .ok (.aload_n 0, 1) := dk_42 (dk_at dksX3_begin_5 19 rfl rfl)
theorem dX3_begin_134 : decode cX3_begin 134 = .ok (.areturn, 1) := dk_176 (dk_at dksX3_begin_5 20 rfl rfl)
abbrev cX3_growth : ByteArray := prog_15_method_11_code
def yX3_growth : MethodName := ⟨RX3, "growth", "(LWeatherWages$Book;I)I"⟩
def dkwX3_growth_0 : List UInt8 := [43, 42, 180, 0, 15, 28, 42, 180, 0, 18, 28, 46, 42, 180, 0, 46, 182, 0, 78, 172]
abbrev dktX3_growth_0 : List UInt8 := dkwX3_growth_0 ++ []
theorem dksX3_growth_0 : cX3_growth.data.toList.drop 0 = dktX3_growth_0 := by decide +kernel
theorem dX3_growth_0 : decode cX3_growth 0 = .ok (.aload_n 1, 1) := dk_43 (dk_at dksX3_growth_0 0 rfl rfl)
theorem dX3_growth_1 : decode cX3_growth 1 = .ok (.aload_n 0, 1) := dk_42 (dk_at dksX3_growth_0 1 rfl rfl)
theorem dX3_growth_2 : decode cX3_growth 2 = .ok (.getfield 15, 3) := dk_180 0 15 (dk_at dksX3_growth_0 2 rfl rfl)
theorem dX3_growth_5 : decode cX3_growth 5 = .ok (.iload_n 2, 1) := dk_28 (dk_at dksX3_growth_0 5 rfl rfl)
theorem dX3_growth_6 : decode cX3_growth 6 = .ok (.aload_n 0, 1) := dk_42 (dk_at dksX3_growth_0 6 rfl rfl)
theorem dX3_growth_7 : decode cX3_growth 7 = .ok (.getfield 18, 3) := dk_180 0 18 (dk_at dksX3_growth_0 7 rfl rfl)
theorem dX3_growth_10 : decode cX3_growth 10 = .ok (.iload_n 2, 1) := dk_28 (dk_at dksX3_growth_0 10 rfl rfl)
theorem dX3_growth_11 : decode cX3_growth 11 = .ok (.iaload, 1) := dk_46 (dk_at dksX3_growth_0 11 rfl rfl)
theorem dX3_growth_12 : decode cX3_growth 12 = .ok (.aload_n 0, 1) := dk_42 (dk_at dksX3_growth_0 12 rfl rfl)
theorem dX3_growth_13 : decode cX3_growth 13 = .ok (.getfield 46, 3) := dk_180 0 46 (dk_at dksX3_growth_0 13 rfl rfl)
theorem dX3_growth_16 : decode cX3_growth 16 = .ok (.invokevirtual 78, 3) := dk_182 0 78 (dk_at dksX3_growth_0 16 rfl rfl)
theorem dX3_growth_19 : decode cX3_growth 19 = .ok (.ireturn, 1) := dk_172 (dk_at dksX3_growth_0 19 rfl rfl)
abbrev cX3_rich : ByteArray := prog_15_method_5_code
def yX3_rich : MethodName := ⟨RX3, "rich", "(I)I"⟩
def dkwX3_rich_0 : List UInt8 := [42, 27, 3, 182, 0, 59, 42, 27, 4, 182, 0, 59, 96, 42, 27, 5, 182, 0, 59, 96, 172]
abbrev dktX3_rich_0 : List UInt8 := dkwX3_rich_0 ++ []
theorem dksX3_rich_0 : cX3_rich.data.toList.drop 0 = dktX3_rich_0 := by decide +kernel
theorem dX3_rich_0 : decode cX3_rich 0 = .ok (.aload_n 0, 1) := dk_42 (dk_at dksX3_rich_0 0 rfl rfl)
theorem dX3_rich_1 : decode cX3_rich 1 = .ok (.iload_n 1, 1) := dk_27 (dk_at dksX3_rich_0 1 rfl rfl)
theorem dX3_rich_2 : decode cX3_rich 2 = .ok (.iconst 0, 1) := dk_3 (dk_at dksX3_rich_0 2 rfl rfl)
theorem dX3_rich_3 : decode cX3_rich 3 = .ok (.invokevirtual 59, 3) := dk_182 0 59 (dk_at dksX3_rich_0 3 rfl rfl)
theorem dX3_rich_6 : decode cX3_rich 6 = .ok (.aload_n 0, 1) := dk_42 (dk_at dksX3_rich_0 6 rfl rfl)
theorem dX3_rich_7 : decode cX3_rich 7 = .ok (.iload_n 1, 1) := dk_27 (dk_at dksX3_rich_0 7 rfl rfl)
theorem dX3_rich_8 : decode cX3_rich 8 = .ok (.iconst 1, 1) := dk_4 (dk_at dksX3_rich_0 8 rfl rfl)
theorem dX3_rich_9 : decode cX3_rich 9 = .ok (.invokevirtual 59, 3) := dk_182 0 59 (dk_at dksX3_rich_0 9 rfl rfl)
theorem dX3_rich_12 : decode cX3_rich 12 = .ok (.iadd, 1) := dk_96 (dk_at dksX3_rich_0 12 rfl rfl)
theorem dX3_rich_13 : decode cX3_rich 13 = .ok (.aload_n 0, 1) := dk_42 (dk_at dksX3_rich_0 13 rfl rfl)
theorem dX3_rich_14 : decode cX3_rich 14 = .ok (.iload_n 1, 1) := dk_27 (dk_at dksX3_rich_0 14 rfl rfl)
theorem dX3_rich_15 : decode cX3_rich 15 = .ok (.iconst 2, 1) := dk_5 (dk_at dksX3_rich_0 15 rfl rfl)
theorem dX3_rich_16 : decode cX3_rich 16 = .ok (.invokevirtual 59, 3) := dk_182 0 59 (dk_at dksX3_rich_0 16 rfl rfl)
theorem dX3_rich_19 : decode cX3_rich 19 = .ok (.iadd, 1) := dk_96 (dk_at dksX3_rich_0 19 rfl rfl)
theorem dX3_rich_20 : decode cX3_rich 20 = .ok (.ireturn, 1) := dk_172 (dk_at dksX3_rich_0 20 rfl rfl)
abbrev cX3_purse : ByteArray := prog_15_method_4_code
def yX3_purse : MethodName := ⟨RX3, "purse", "(II)I"⟩
def dkwX3_purse_0 : List UInt8 := [42, 180, 0, 9, 6, 27, 104, 28, 96, 46, 172]
abbrev dktX3_purse_0 : List UInt8 := dkwX3_purse_0 ++ []
theorem dksX3_purse_0 : cX3_purse.data.toList.drop 0 = dktX3_purse_0 := by decide +kernel
theorem dX3_purse_0 : decode cX3_purse 0 = .ok (.aload_n 0, 1) := dk_42 (dk_at dksX3_purse_0 0 rfl rfl)
theorem dX3_purse_1 : decode cX3_purse 1 = .ok (.getfield 9, 3) := dk_180 0 9 (dk_at dksX3_purse_0 1 rfl rfl)
theorem dX3_purse_4 : decode cX3_purse 4 = .ok (.iconst 3, 1) := dk_6 (dk_at dksX3_purse_0 4 rfl rfl)
theorem dX3_purse_5 : decode cX3_purse 5 = .ok (.iload_n 1, 1) := dk_27 (dk_at dksX3_purse_0 5 rfl rfl)
theorem dX3_purse_6 : decode cX3_purse 6 = .ok (.imul, 1) := dk_104 (dk_at dksX3_purse_0 6 rfl rfl)
theorem dX3_purse_7 : decode cX3_purse 7 = .ok (.iload_n 2, 1) := dk_28 (dk_at dksX3_purse_0 7 rfl rfl)
theorem dX3_purse_8 : decode cX3_purse 8 = .ok (.iadd, 1) := dk_96 (dk_at dksX3_purse_0 8 rfl rfl)
theorem dX3_purse_9 : decode cX3_purse 9 = .ok (.iaload, 1) := dk_46 (dk_at dksX3_purse_0 9 rfl rfl)
theorem dX3_purse_10 : decode cX3_purse 10 = .ok (.ireturn, 1) := dk_172 (dk_at dksX3_purse_0 10 rfl rfl)
abbrev cX3_copy : ByteArray := prog_15_method_3_code
def yX3_copy : MethodName := ⟨RX3, "copy", "(LWeatherWages$Plots;)LWeatherWages$Plots;"⟩
def dkwX3_copy_3 : List UInt8 := [181, 0, 52, 42, 176]
abbrev dktX3_copy_3 : List UInt8 := dkwX3_copy_3 ++ []
def dkwX3_copy_2 : List UInt8 := [3, 42, 180, 0, 21, 3, 8, 184, 0, 53, 42, 43, 180, 0, 46, 181, 0, 46, 42, 43, 180, 0, 52]
abbrev dktX3_copy_2 : List UInt8 := dkwX3_copy_2 ++ dktX3_copy_3
def dkwX3_copy_1 : List UInt8 := [3, 16, 15, 184, 0, 53, 43, 180, 0, 18, 3, 42, 180, 0, 18, 3, 8, 184, 0, 53, 43, 180, 0, 21]
abbrev dktX3_copy_1 : List UInt8 := dkwX3_copy_1 ++ dktX3_copy_2
def dkwX3_copy_0 : List UInt8 := [43, 180, 0, 9, 3, 42, 180, 0, 9, 3, 16, 15, 184, 0, 53, 43, 180, 0, 15, 3, 42, 180, 0, 15]
abbrev dktX3_copy_0 : List UInt8 := dkwX3_copy_0 ++ dktX3_copy_1
theorem dksX3_copy_0 : cX3_copy.data.toList.drop 0 = dktX3_copy_0 := by decide +kernel
theorem dksX3_copy_1 : cX3_copy.data.toList.drop 24 = dktX3_copy_1 := dk_seg dksX3_copy_0 24 rfl rfl
theorem dksX3_copy_2 : cX3_copy.data.toList.drop 48 = dktX3_copy_2 := dk_seg dksX3_copy_1 24 rfl rfl
theorem dksX3_copy_3 : cX3_copy.data.toList.drop 71 = dktX3_copy_3 := dk_seg dksX3_copy_2 23 rfl rfl
theorem dX3_copy_0 : decode cX3_copy 0 = .ok (.aload_n 1, 1) := dk_43 (dk_at dksX3_copy_0 0 rfl rfl)
theorem dX3_copy_1 : decode cX3_copy 1 = .ok (.getfield 9, 3) := dk_180 0 9 (dk_at dksX3_copy_0 1 rfl rfl)
theorem dX3_copy_4 : decode cX3_copy 4 = .ok (.iconst 0, 1) := dk_3 (dk_at dksX3_copy_0 4 rfl rfl)
theorem dX3_copy_5 : decode cX3_copy 5 = .ok (.aload_n 0, 1) := dk_42 (dk_at dksX3_copy_0 5 rfl rfl)
theorem dX3_copy_6 : decode cX3_copy 6 = .ok (.getfield 9, 3) := dk_180 0 9 (dk_at dksX3_copy_0 6 rfl rfl)
theorem dX3_copy_9 : decode cX3_copy 9 = .ok (.iconst 0, 1) := dk_3 (dk_at dksX3_copy_0 9 rfl rfl)
theorem dX3_copy_10 : decode cX3_copy 10 = .ok (.bipush 15, 2) := dk_16 15 (dk_at dksX3_copy_0 10 rfl rfl)
theorem dX3_copy_12 : decode cX3_copy 12 = .ok (.invokestatic 53, 3) := dk_184 0 53 (dk_at dksX3_copy_0 12 rfl rfl)
theorem dX3_copy_15 : decode cX3_copy 15 = .ok (.aload_n 1, 1) := dk_43 (dk_at dksX3_copy_0 15 rfl rfl)
theorem dX3_copy_16 : decode cX3_copy 16 = .ok (.getfield 15, 3) := dk_180 0 15 (dk_at dksX3_copy_0 16 rfl rfl)
theorem dX3_copy_19 : decode cX3_copy 19 = .ok (.iconst 0, 1) := dk_3 (dk_at dksX3_copy_0 19 rfl rfl)
theorem dX3_copy_20 : decode cX3_copy 20 = .ok (.aload_n 0, 1) := dk_42 (dk_at dksX3_copy_0 20 rfl rfl)
theorem dX3_copy_21 : decode cX3_copy 21 = .ok (.getfield 15, 3) := dk_180 0 15 (dk_at dksX3_copy_0 21 rfl rfl)
theorem dX3_copy_24 : decode cX3_copy 24 = .ok (.iconst 0, 1) := dk_3 (dk_at dksX3_copy_1 0 rfl rfl)
theorem dX3_copy_25 : decode cX3_copy 25 = .ok (.bipush 15, 2) := dk_16 15 (dk_at dksX3_copy_1 1 rfl rfl)
theorem dX3_copy_27 : decode cX3_copy 27 = .ok (.invokestatic 53, 3) := dk_184 0 53 (dk_at dksX3_copy_1 3 rfl rfl)
theorem dX3_copy_30 : decode cX3_copy 30 = .ok (.aload_n 1, 1) := dk_43 (dk_at dksX3_copy_1 6 rfl rfl)
theorem dX3_copy_31 : decode cX3_copy 31 = .ok (.getfield 18, 3) := dk_180 0 18 (dk_at dksX3_copy_1 7 rfl rfl)
theorem dX3_copy_34 : decode cX3_copy 34 = .ok (.iconst 0, 1) := dk_3 (dk_at dksX3_copy_1 10 rfl rfl)
theorem dX3_copy_35 : decode cX3_copy 35 = .ok (.aload_n 0, 1) := dk_42 (dk_at dksX3_copy_1 11 rfl rfl)
theorem dX3_copy_36 : decode cX3_copy 36 = .ok (.getfield 18, 3) := dk_180 0 18 (dk_at dksX3_copy_1 12 rfl rfl)
theorem dX3_copy_39 : decode cX3_copy 39 = .ok (.iconst 0, 1) := dk_3 (dk_at dksX3_copy_1 15 rfl rfl)
theorem dX3_copy_40 : decode cX3_copy 40 = .ok (.iconst 5, 1) := dk_8 (dk_at dksX3_copy_1 16 rfl rfl)
theorem dX3_copy_41 : decode cX3_copy 41 = .ok (.invokestatic 53, 3) := dk_184 0 53 (dk_at dksX3_copy_1 17 rfl rfl)
theorem dX3_copy_44 : decode cX3_copy 44 = .ok (.aload_n 1, 1) := dk_43 (dk_at dksX3_copy_1 20 rfl rfl)
theorem dX3_copy_45 : decode cX3_copy 45 = .ok (.getfield 21, 3) := dk_180 0 21 (dk_at dksX3_copy_1 21 rfl rfl)
theorem dX3_copy_48 : decode cX3_copy 48 = .ok (.iconst 0, 1) := dk_3 (dk_at dksX3_copy_2 0 rfl rfl)
theorem dX3_copy_49 : decode cX3_copy 49 = .ok (.aload_n 0, 1) := dk_42 (dk_at dksX3_copy_2 1 rfl rfl)
theorem dX3_copy_50 : decode cX3_copy 50 = .ok (.getfield 21, 3) := dk_180 0 21 (dk_at dksX3_copy_2 2 rfl rfl)
theorem dX3_copy_53 : decode cX3_copy 53 = .ok (.iconst 0, 1) := dk_3 (dk_at dksX3_copy_2 5 rfl rfl)
theorem dX3_copy_54 : decode cX3_copy 54 = .ok (.iconst 5, 1) := dk_8 (dk_at dksX3_copy_2 6 rfl rfl)
theorem dX3_copy_55 : decode cX3_copy 55 = .ok (.invokestatic 53, 3) := dk_184 0 53 (dk_at dksX3_copy_2 7 rfl rfl)
theorem dX3_copy_58 : decode cX3_copy 58 = .ok (.aload_n 0, 1) := dk_42 (dk_at dksX3_copy_2 10 rfl rfl)
theorem dX3_copy_59 : decode cX3_copy 59 = .ok (.aload_n 1, 1) := dk_43 (dk_at dksX3_copy_2 11 rfl rfl)
theorem dX3_copy_60 : decode cX3_copy 60 = .ok (.getfield 46, 3) := dk_180 0 46 (dk_at dksX3_copy_2 12 rfl rfl)
theorem dX3_copy_63 : decode cX3_copy 63 = .ok (.putfield 46, 3) := dk_181 0 46 (dk_at dksX3_copy_2 15 rfl rfl)
theorem dX3_copy_66 : decode cX3_copy 66 = .ok (.aload_n 0, 1) := dk_42 (dk_at dksX3_copy_2 18 rfl rfl)
theorem dX3_copy_67 : decode cX3_copy 67 = .ok (.aload_n 1, 1) := dk_43 (dk_at dksX3_copy_2 19 rfl rfl)
theorem dX3_copy_68 : decode cX3_copy 68 = .ok (.getfield 52, 3) := dk_180 0 52 (dk_at dksX3_copy_2 20 rfl rfl)
theorem dX3_copy_71 : decode cX3_copy 71 = .ok (.putfield 52, 3) := dk_181 0 52 (dk_at dksX3_copy_3 0 rfl rfl)
theorem dX3_copy_74 : decode cX3_copy 74 = .ok (.aload_n 0, 1) := dk_42 (dk_at dksX3_copy_3 3 rfl rfl)
theorem dX3_copy_75 : decode cX3_copy 75 = .ok (.areturn, 1) := dk_176 (dk_at dksX3_copy_3 4 rfl rfl)
abbrev cX3_spends : ByteArray := prog_15_method_8_code
def yX3_spends : MethodName := ⟨RX3, "spends", "(LWeatherWages$Book;III)V"⟩
def dkwX3_spends_1 : List UInt8 := [96, 79, 42, 43, 28, 29, 21, 4, 182, 0, 66, 177]
abbrev dktX3_spends_1 : List UInt8 := dkwX3_spends_1 ++ []
def dkwX3_spends_0 : List UInt8 := [42, 180, 0, 9, 6, 28, 104, 29, 96, 92, 46, 21, 4, 100, 79, 42, 180, 0, 21, 28, 92, 46, 21, 4]
abbrev dktX3_spends_0 : List UInt8 := dkwX3_spends_0 ++ dktX3_spends_1
theorem dksX3_spends_0 : cX3_spends.data.toList.drop 0 = dktX3_spends_0 := by decide +kernel
theorem dksX3_spends_1 : cX3_spends.data.toList.drop 24 = dktX3_spends_1 := dk_seg dksX3_spends_0 24 rfl rfl
theorem dX3_spends_0 : decode cX3_spends 0 = .ok (.aload_n 0, 1) := dk_42 (dk_at dksX3_spends_0 0 rfl rfl)
theorem dX3_spends_1 : decode cX3_spends 1 = .ok (.getfield 9, 3) := dk_180 0 9 (dk_at dksX3_spends_0 1 rfl rfl)
theorem dX3_spends_4 : decode cX3_spends 4 = .ok (.iconst 3, 1) := dk_6 (dk_at dksX3_spends_0 4 rfl rfl)
theorem dX3_spends_5 : decode cX3_spends 5 = .ok (.iload_n 2, 1) := dk_28 (dk_at dksX3_spends_0 5 rfl rfl)
theorem dX3_spends_6 : decode cX3_spends 6 = .ok (.imul, 1) := dk_104 (dk_at dksX3_spends_0 6 rfl rfl)
theorem dX3_spends_7 : decode cX3_spends 7 = .ok (.iload_n 3, 1) := dk_29 (dk_at dksX3_spends_0 7 rfl rfl)
theorem dX3_spends_8 : decode cX3_spends 8 = .ok (.iadd, 1) := dk_96 (dk_at dksX3_spends_0 8 rfl rfl)
theorem dX3_spends_9 : decode cX3_spends 9 = .ok (.dup2, 1) := dk_92 (dk_at dksX3_spends_0 9 rfl rfl)
theorem dX3_spends_10 : decode cX3_spends 10 = .ok (.iaload, 1) := dk_46 (dk_at dksX3_spends_0 10 rfl rfl)
theorem dX3_spends_11 : decode cX3_spends 11 = .ok (.iload 4, 2) := dk_21 4 (dk_at dksX3_spends_0 11 rfl rfl)
theorem dX3_spends_13 : decode cX3_spends 13 = .ok (.isub, 1) := dk_100 (dk_at dksX3_spends_0 13 rfl rfl)
theorem dX3_spends_14 : decode cX3_spends 14 = .ok (.iastore, 1) := dk_79 (dk_at dksX3_spends_0 14 rfl rfl)
theorem dX3_spends_15 : decode cX3_spends 15 = .ok (.aload_n 0, 1) := dk_42 (dk_at dksX3_spends_0 15 rfl rfl)
theorem dX3_spends_16 : decode cX3_spends 16 = .ok (.getfield 21, 3) := dk_180 0 21 (dk_at dksX3_spends_0 16 rfl rfl)
theorem dX3_spends_19 : decode cX3_spends 19 = .ok (.iload_n 2, 1) := dk_28 (dk_at dksX3_spends_0 19 rfl rfl)
theorem dX3_spends_20 : decode cX3_spends 20 = .ok (.dup2, 1) := dk_92 (dk_at dksX3_spends_0 20 rfl rfl)
theorem dX3_spends_21 : decode cX3_spends 21 = .ok (.iaload, 1) := dk_46 (dk_at dksX3_spends_0 21 rfl rfl)
theorem dX3_spends_22 : decode cX3_spends 22 = .ok (.iload 4, 2) := dk_21 4 (dk_at dksX3_spends_0 22 rfl rfl)
theorem dX3_spends_24 : decode cX3_spends 24 = .ok (.iadd, 1) := dk_96 (dk_at dksX3_spends_1 0 rfl rfl)
theorem dX3_spends_25 : decode cX3_spends 25 = .ok (.iastore, 1) := dk_79 (dk_at dksX3_spends_1 1 rfl rfl)
theorem dX3_spends_26 : decode cX3_spends 26 = .ok (.aload_n 0, 1) := dk_42 (dk_at dksX3_spends_1 2 rfl rfl)
theorem dX3_spends_27 : decode cX3_spends 27 = .ok (.aload_n 1, 1) := dk_43 (dk_at dksX3_spends_1 3 rfl rfl)
theorem dX3_spends_28 : decode cX3_spends 28 = .ok (.iload_n 2, 1) := dk_28 (dk_at dksX3_spends_1 4 rfl rfl)
theorem dX3_spends_29 : decode cX3_spends 29 = .ok (.iload_n 3, 1) := dk_29 (dk_at dksX3_spends_1 5 rfl rfl)
theorem dX3_spends_30 : decode cX3_spends 30 = .ok (.iload 4, 2) := dk_21 4 (dk_at dksX3_spends_1 6 rfl rfl)
theorem dX3_spends_32 : decode cX3_spends 32 = .ok (.invokevirtual 66, 3) := dk_182 0 66 (dk_at dksX3_spends_1 8 rfl rfl)
theorem dX3_spends_35 : decode cX3_spends 35 = .ok (.return_, 1) := dk_177 (dk_at dksX3_spends_1 11 rfl rfl)
abbrev cX3_pours : ByteArray := prog_15_method_6_code
def yX3_pours : MethodName := ⟨RX3, "pours", "(LWeatherWages$Book;III)V"⟩
def dkwX3_pours_3 : List UInt8 := [29, 96, 92, 46, 21, 4, 16, 10, 43, 28, 182, 0, 62, 100, 104, 16, 10, 108, 96, 79, 177]
abbrev dktX3_pours_3 : List UInt8 := dkwX3_pours_3 ++ []
def dkwX3_pours_2 : List UInt8 := [96, 79, 28, 4, 96, 43, 180, 0, 24, 182, 0, 30, 162, 0, 32, 42, 180, 0, 15, 6, 28, 4, 96, 104]
abbrev dktX3_pours_2 : List UInt8 := dkwX3_pours_2 ++ dktX3_pours_3
def dkwX3_pours_1 : List UInt8 := [28, 4, 100, 104, 29, 96, 92, 46, 21, 4, 16, 10, 43, 28, 4, 100, 182, 0, 62, 100, 104, 16, 10, 108]
abbrev dktX3_pours_1 : List UInt8 := dkwX3_pours_1 ++ dktX3_pours_2
def dkwX3_pours_0 : List UInt8 := [42, 180, 0, 15, 6, 28, 104, 29, 96, 92, 46, 21, 4, 96, 79, 28, 158, 0, 34, 42, 180, 0, 15, 6]
abbrev dktX3_pours_0 : List UInt8 := dkwX3_pours_0 ++ dktX3_pours_1
theorem dksX3_pours_0 : cX3_pours.data.toList.drop 0 = dktX3_pours_0 := by decide +kernel
theorem dksX3_pours_1 : cX3_pours.data.toList.drop 24 = dktX3_pours_1 := dk_seg dksX3_pours_0 24 rfl rfl
theorem dksX3_pours_2 : cX3_pours.data.toList.drop 48 = dktX3_pours_2 := dk_seg dksX3_pours_1 24 rfl rfl
theorem dksX3_pours_3 : cX3_pours.data.toList.drop 72 = dktX3_pours_3 := dk_seg dksX3_pours_2 24 rfl rfl
theorem dX3_pours_0 : decode cX3_pours 0 = .ok (.aload_n 0, 1) := dk_42 (dk_at dksX3_pours_0 0 rfl rfl)
theorem dX3_pours_1 : decode cX3_pours 1 = .ok (.getfield 15, 3) := dk_180 0 15 (dk_at dksX3_pours_0 1 rfl rfl)
theorem dX3_pours_4 : decode cX3_pours 4 = .ok (.iconst 3, 1) := dk_6 (dk_at dksX3_pours_0 4 rfl rfl)
theorem dX3_pours_5 : decode cX3_pours 5 = .ok (.iload_n 2, 1) := dk_28 (dk_at dksX3_pours_0 5 rfl rfl)
theorem dX3_pours_6 : decode cX3_pours 6 = .ok (.imul, 1) := dk_104 (dk_at dksX3_pours_0 6 rfl rfl)
theorem dX3_pours_7 : decode cX3_pours 7 = .ok (.iload_n 3, 1) := dk_29 (dk_at dksX3_pours_0 7 rfl rfl)
theorem dX3_pours_8 : decode cX3_pours 8 = .ok (.iadd, 1) := dk_96 (dk_at dksX3_pours_0 8 rfl rfl)
theorem dX3_pours_9 : decode cX3_pours 9 = .ok (.dup2, 1) := dk_92 (dk_at dksX3_pours_0 9 rfl rfl)
theorem dX3_pours_10 : decode cX3_pours 10 = .ok (.iaload, 1) := dk_46 (dk_at dksX3_pours_0 10 rfl rfl)
theorem dX3_pours_11 : decode cX3_pours 11 = .ok (.iload 4, 2) := dk_21 4 (dk_at dksX3_pours_0 11 rfl rfl)
theorem dX3_pours_13 : decode cX3_pours 13 = .ok (.iadd, 1) := dk_96 (dk_at dksX3_pours_0 13 rfl rfl)
theorem dX3_pours_14 : decode cX3_pours 14 = .ok (.iastore, 1) := dk_79 (dk_at dksX3_pours_0 14 rfl rfl)
theorem dX3_pours_15 : decode cX3_pours 15 = .ok (.iload_n 2, 1) := dk_28 (dk_at dksX3_pours_0 15 rfl rfl)
theorem dX3_pours_16 : decode cX3_pours 16 = .ok (.ifCond .le 34, 3) := dk_158 0 34 (dk_at dksX3_pours_0 16 rfl rfl)
theorem dX3_pours_19 : decode cX3_pours 19 = .ok (.aload_n 0, 1) := dk_42 (dk_at dksX3_pours_0 19 rfl rfl)
theorem dX3_pours_20 : decode cX3_pours 20 = .ok (.getfield 15, 3) := dk_180 0 15 (dk_at dksX3_pours_0 20 rfl rfl)
theorem dX3_pours_23 : decode cX3_pours 23 = .ok (.iconst 3, 1) := dk_6 (dk_at dksX3_pours_0 23 rfl rfl)
theorem dX3_pours_24 : decode cX3_pours 24 = .ok (.iload_n 2, 1) := dk_28 (dk_at dksX3_pours_1 0 rfl rfl)
theorem dX3_pours_25 : decode cX3_pours 25 = .ok (.iconst 1, 1) := dk_4 (dk_at dksX3_pours_1 1 rfl rfl)
theorem dX3_pours_26 : decode cX3_pours 26 = .ok (.isub, 1) := dk_100 (dk_at dksX3_pours_1 2 rfl rfl)
theorem dX3_pours_27 : decode cX3_pours 27 = .ok (.imul, 1) := dk_104 (dk_at dksX3_pours_1 3 rfl rfl)
theorem dX3_pours_28 : decode cX3_pours 28 = .ok (.iload_n 3, 1) := dk_29 (dk_at dksX3_pours_1 4 rfl rfl)
theorem dX3_pours_29 : decode cX3_pours 29 = .ok (.iadd, 1) := dk_96 (dk_at dksX3_pours_1 5 rfl rfl)
theorem dX3_pours_30 : decode cX3_pours 30 = .ok (.dup2, 1) := dk_92 (dk_at dksX3_pours_1 6 rfl rfl)
theorem dX3_pours_31 : decode cX3_pours 31 = .ok (.iaload, 1) := dk_46 (dk_at dksX3_pours_1 7 rfl rfl)
theorem dX3_pours_32 : decode cX3_pours 32 = .ok (.iload 4, 2) := dk_21 4 (dk_at dksX3_pours_1 8 rfl rfl)
theorem dX3_pours_34 : decode cX3_pours 34 = .ok (.bipush 10, 2) := dk_16 10 (dk_at dksX3_pours_1 10 rfl rfl)
theorem dX3_pours_36 : decode cX3_pours 36 = .ok (.aload_n 1, 1) := dk_43 (dk_at dksX3_pours_1 12 rfl rfl)
theorem dX3_pours_37 : decode cX3_pours 37 = .ok (.iload_n 2, 1) := dk_28 (dk_at dksX3_pours_1 13 rfl rfl)
theorem dX3_pours_38 : decode cX3_pours 38 = .ok (.iconst 1, 1) := dk_4 (dk_at dksX3_pours_1 14 rfl rfl)
theorem dX3_pours_39 : decode cX3_pours 39 = .ok (.isub, 1) := dk_100 (dk_at dksX3_pours_1 15 rfl rfl)
theorem dX3_pours_40 : decode cX3_pours 40 = .ok (.invokevirtual 62, 3) := dk_182 0 62 (dk_at dksX3_pours_1 16 rfl rfl)
theorem dX3_pours_43 : decode cX3_pours 43 = .ok (.isub, 1) := dk_100 (dk_at dksX3_pours_1 19 rfl rfl)
theorem dX3_pours_44 : decode cX3_pours 44 = .ok (.imul, 1) := dk_104 (dk_at dksX3_pours_1 20 rfl rfl)
theorem dX3_pours_45 : decode cX3_pours 45 = .ok (.bipush 10, 2) := dk_16 10 (dk_at dksX3_pours_1 21 rfl rfl)
theorem dX3_pours_47 : decode cX3_pours 47 = .ok (.idiv, 1) := dk_108 (dk_at dksX3_pours_1 23 rfl rfl)
theorem dX3_pours_48 : decode cX3_pours 48 = .ok (.iadd, 1) := dk_96 (dk_at dksX3_pours_2 0 rfl rfl)
theorem dX3_pours_49 : decode cX3_pours 49 = .ok (.iastore, 1) := dk_79 (dk_at dksX3_pours_2 1 rfl rfl)
theorem dX3_pours_50 : decode cX3_pours 50 = .ok (.iload_n 2, 1) := dk_28 (dk_at dksX3_pours_2 2 rfl rfl)
theorem dX3_pours_51 : decode cX3_pours 51 = .ok (.iconst 1, 1) := dk_4 (dk_at dksX3_pours_2 3 rfl rfl)
theorem dX3_pours_52 : decode cX3_pours 52 = .ok (.iadd, 1) := dk_96 (dk_at dksX3_pours_2 4 rfl rfl)
theorem dX3_pours_53 : decode cX3_pours 53 = .ok (.aload_n 1, 1) := dk_43 (dk_at dksX3_pours_2 5 rfl rfl)
theorem dX3_pours_54 : decode cX3_pours 54 = .ok (.getfield 24, 3) := dk_180 0 24 (dk_at dksX3_pours_2 6 rfl rfl)
theorem dX3_pours_57 : decode cX3_pours 57 = .ok (.invokevirtual 30, 3) := dk_182 0 30 (dk_at dksX3_pours_2 9 rfl rfl)
theorem dX3_pours_60 : decode cX3_pours 60 = .ok (.if_icmp .ge 32, 3) := dk_162 0 32 (dk_at dksX3_pours_2 12 rfl rfl)
theorem dX3_pours_63 : decode cX3_pours 63 = .ok (.aload_n 0, 1) := dk_42 (dk_at dksX3_pours_2 15 rfl rfl)
theorem dX3_pours_64 : decode cX3_pours 64 = .ok (.getfield 15, 3) := dk_180 0 15 (dk_at dksX3_pours_2 16 rfl rfl)
theorem dX3_pours_67 : decode cX3_pours 67 = .ok (.iconst 3, 1) := dk_6 (dk_at dksX3_pours_2 19 rfl rfl)
theorem dX3_pours_68 : decode cX3_pours 68 = .ok (.iload_n 2, 1) := dk_28 (dk_at dksX3_pours_2 20 rfl rfl)
theorem dX3_pours_69 : decode cX3_pours 69 = .ok (.iconst 1, 1) := dk_4 (dk_at dksX3_pours_2 21 rfl rfl)
theorem dX3_pours_70 : decode cX3_pours 70 = .ok (.iadd, 1) := dk_96 (dk_at dksX3_pours_2 22 rfl rfl)
theorem dX3_pours_71 : decode cX3_pours 71 = .ok (.imul, 1) := dk_104 (dk_at dksX3_pours_2 23 rfl rfl)
theorem dX3_pours_72 : decode cX3_pours 72 = .ok (.iload_n 3, 1) := dk_29 (dk_at dksX3_pours_3 0 rfl rfl)
theorem dX3_pours_73 : decode cX3_pours 73 = .ok (.iadd, 1) := dk_96 (dk_at dksX3_pours_3 1 rfl rfl)
theorem dX3_pours_74 : decode cX3_pours 74 = .ok (.dup2, 1) := dk_92 (dk_at dksX3_pours_3 2 rfl rfl)
theorem dX3_pours_75 : decode cX3_pours 75 = .ok (.iaload, 1) := dk_46 (dk_at dksX3_pours_3 3 rfl rfl)
theorem dX3_pours_76 : decode cX3_pours 76 = .ok (.iload 4, 2) := dk_21 4 (dk_at dksX3_pours_3 4 rfl rfl)
theorem dX3_pours_78 : decode cX3_pours 78 = .ok (.bipush 10, 2) := dk_16 10 (dk_at dksX3_pours_3 6 rfl rfl)
theorem dX3_pours_80 : decode cX3_pours 80 = .ok (.aload_n 1, 1) := dk_43 (dk_at dksX3_pours_3 8 rfl rfl)
theorem dX3_pours_81 : decode cX3_pours 81 = .ok (.iload_n 2, 1) := dk_28 (dk_at dksX3_pours_3 9 rfl rfl)
theorem dX3_pours_82 : decode cX3_pours 82 = .ok (.invokevirtual 62, 3) := dk_182 0 62 (dk_at dksX3_pours_3 10 rfl rfl)
theorem dX3_pours_85 : decode cX3_pours 85 = .ok (.isub, 1) := dk_100 (dk_at dksX3_pours_3 13 rfl rfl)
theorem dX3_pours_86 : decode cX3_pours 86 = .ok (.imul, 1) := dk_104 (dk_at dksX3_pours_3 14 rfl rfl)
theorem dX3_pours_87 : decode cX3_pours 87 = .ok (.bipush 10, 2) := dk_16 10 (dk_at dksX3_pours_3 15 rfl rfl)
theorem dX3_pours_89 : decode cX3_pours 89 = .ok (.idiv, 1) := dk_108 (dk_at dksX3_pours_3 17 rfl rfl)
theorem dX3_pours_90 : decode cX3_pours 90 = .ok (.iadd, 1) := dk_96 (dk_at dksX3_pours_3 18 rfl rfl)
theorem dX3_pours_91 : decode cX3_pours 91 = .ok (.iastore, 1) := dk_79 (dk_at dksX3_pours_3 19 rfl rfl)
theorem dX3_pours_92 : decode cX3_pours 92 = .ok (.return_, 1) := dk_177 (dk_at dksX3_pours_3 20 rfl rfl)
abbrev cX3_gets : ByteArray := prog_15_method_10_code
def yX3_gets : MethodName := ⟨RX3, "gets", "(III)V"⟩
def dkwX3_gets_1 : List UInt8 := [184, 0, 73, 79, 177]
abbrev dktX3_gets_1 : List UInt8 := dkwX3_gets_1 ++ []
def dkwX3_gets_0 : List UInt8 := [42, 180, 0, 9, 6, 27, 104, 28, 96, 16, 99, 42, 180, 0, 9, 6, 27, 104, 28, 96, 46, 29, 96]
abbrev dktX3_gets_0 : List UInt8 := dkwX3_gets_0 ++ dktX3_gets_1
theorem dksX3_gets_0 : cX3_gets.data.toList.drop 0 = dktX3_gets_0 := by decide +kernel
theorem dksX3_gets_1 : cX3_gets.data.toList.drop 23 = dktX3_gets_1 := dk_seg dksX3_gets_0 23 rfl rfl
theorem dX3_gets_0 : decode cX3_gets 0 = .ok (.aload_n 0, 1) := dk_42 (dk_at dksX3_gets_0 0 rfl rfl)
theorem dX3_gets_1 : decode cX3_gets 1 = .ok (.getfield 9, 3) := dk_180 0 9 (dk_at dksX3_gets_0 1 rfl rfl)
theorem dX3_gets_4 : decode cX3_gets 4 = .ok (.iconst 3, 1) := dk_6 (dk_at dksX3_gets_0 4 rfl rfl)
theorem dX3_gets_5 : decode cX3_gets 5 = .ok (.iload_n 1, 1) := dk_27 (dk_at dksX3_gets_0 5 rfl rfl)
theorem dX3_gets_6 : decode cX3_gets 6 = .ok (.imul, 1) := dk_104 (dk_at dksX3_gets_0 6 rfl rfl)
theorem dX3_gets_7 : decode cX3_gets 7 = .ok (.iload_n 2, 1) := dk_28 (dk_at dksX3_gets_0 7 rfl rfl)
theorem dX3_gets_8 : decode cX3_gets 8 = .ok (.iadd, 1) := dk_96 (dk_at dksX3_gets_0 8 rfl rfl)
theorem dX3_gets_9 : decode cX3_gets 9 = .ok (.bipush 99, 2) := dk_16 99 (dk_at dksX3_gets_0 9 rfl rfl)
theorem dX3_gets_11 : decode cX3_gets 11 = .ok (.aload_n 0, 1) := dk_42 (dk_at dksX3_gets_0 11 rfl rfl)
theorem dX3_gets_12 : decode cX3_gets 12 = .ok (.getfield 9, 3) := dk_180 0 9 (dk_at dksX3_gets_0 12 rfl rfl)
theorem dX3_gets_15 : decode cX3_gets 15 = .ok (.iconst 3, 1) := dk_6 (dk_at dksX3_gets_0 15 rfl rfl)
theorem dX3_gets_16 : decode cX3_gets 16 = .ok (.iload_n 1, 1) := dk_27 (dk_at dksX3_gets_0 16 rfl rfl)
theorem dX3_gets_17 : decode cX3_gets 17 = .ok (.imul, 1) := dk_104 (dk_at dksX3_gets_0 17 rfl rfl)
theorem dX3_gets_18 : decode cX3_gets 18 = .ok (.iload_n 2, 1) := dk_28 (dk_at dksX3_gets_0 18 rfl rfl)
theorem dX3_gets_19 : decode cX3_gets 19 = .ok (.iadd, 1) := dk_96 (dk_at dksX3_gets_0 19 rfl rfl)
theorem dX3_gets_20 : decode cX3_gets 20 = .ok (.iaload, 1) := dk_46 (dk_at dksX3_gets_0 20 rfl rfl)
theorem dX3_gets_21 : decode cX3_gets 21 = .ok (.iload_n 3, 1) := dk_29 (dk_at dksX3_gets_0 21 rfl rfl)
theorem dX3_gets_22 : decode cX3_gets 22 = .ok (.iadd, 1) := dk_96 (dk_at dksX3_gets_0 22 rfl rfl)
theorem dX3_gets_23 : decode cX3_gets 23 = .ok (.invokestatic 73, 3) := dk_184 0 73 (dk_at dksX3_gets_1 0 rfl rfl)
theorem dX3_gets_26 : decode cX3_gets 26 = .ok (.iastore, 1) := dk_79 (dk_at dksX3_gets_1 3 rfl rfl)
theorem dX3_gets_27 : decode cX3_gets 27 = .ok (.return_, 1) := dk_177 (dk_at dksX3_gets_1 4 rfl rfl)
abbrev cX3_goWeek : ByteArray := prog_15_method_14_code
def yX3_goWeek : MethodName := ⟨RX3, "goWeek", "(LWeatherWages$Book;)I"⟩
def dkwX3_goWeek_7 : List UInt8 := [167, 255, 211, 132, 3, 1, 167, 255, 184, 42, 89, 180, 0, 46, 4, 96, 181, 0, 46, 28, 172]
abbrev dktX3_goWeek_7 : List UInt8 := dkwX3_goWeek_7 ++ []
def dkwX3_goWeek_6 : List UInt8 := [43, 180, 0, 24, 29, 182, 0, 36, 192, 0, 40, 180, 0, 107, 21, 4, 46, 182, 0, 110, 132, 4, 1]
abbrev dktX3_goWeek_6 : List UInt8 := dkwX3_goWeek_6 ++ dktX3_goWeek_7
def dkwX3_goWeek_5 : List UInt8 := [54, 4, 21, 4, 6, 162, 0, 45, 42, 180, 0, 15, 6, 29, 104, 21, 4, 96, 3, 79, 42, 29, 21, 4]
abbrev dktX3_goWeek_5 : List UInt8 := dkwX3_goWeek_5 ++ dktX3_goWeek_6
def dkwX3_goWeek_4 : List UInt8 := [167, 255, 214, 3, 62, 29, 43, 180, 0, 24, 182, 0, 30, 162, 0, 67, 42, 180, 0, 21, 29, 3, 79, 3]
abbrev dktX3_goWeek_4 : List UInt8 := dkwX3_goWeek_4 ++ dktX3_goWeek_5
def dkwX3_goWeek_3 : List UInt8 := [180, 0, 18, 29, 46, 42, 43, 29, 182, 0, 82, 96, 184, 0, 73, 184, 0, 104, 79, 132, 3, 1]
abbrev dktX3_goWeek_3 : List UInt8 := dkwX3_goWeek_3 ++ dktX3_goWeek_4
def dkwX3_goWeek_2 : List UInt8 := [3, 62, 29, 43, 180, 0, 24, 182, 0, 30, 162, 0, 37, 42, 180, 0, 18, 29, 3, 16, 99, 42]
abbrev dktX3_goWeek_2 : List UInt8 := dkwX3_goWeek_2 ++ dktX3_goWeek_3
def dkwX3_goWeek_1 : List UInt8 := [180, 0, 92, 153, 0, 9, 42, 43, 28, 182, 0, 96, 132, 2, 1, 167, 255, 219, 42, 43, 182, 0, 100, 61]
abbrev dktX3_goWeek_1 : List UInt8 := dkwX3_goWeek_1 ++ dktX3_goWeek_2
def dkwX3_goWeek_0 : List UInt8 := [3, 61, 28, 43, 180, 0, 24, 182, 0, 30, 162, 0, 32, 43, 180, 0, 24, 28, 182, 0, 36, 192, 0, 40]
abbrev dktX3_goWeek_0 : List UInt8 := dkwX3_goWeek_0 ++ dktX3_goWeek_1
theorem dksX3_goWeek_0 : cX3_goWeek.data.toList.drop 0 = dktX3_goWeek_0 := by decide +kernel
theorem dksX3_goWeek_1 : cX3_goWeek.data.toList.drop 24 = dktX3_goWeek_1 := dk_seg dksX3_goWeek_0 24 rfl rfl
theorem dksX3_goWeek_2 : cX3_goWeek.data.toList.drop 48 = dktX3_goWeek_2 := dk_seg dksX3_goWeek_1 24 rfl rfl
theorem dksX3_goWeek_3 : cX3_goWeek.data.toList.drop 70 = dktX3_goWeek_3 := dk_seg dksX3_goWeek_2 22 rfl rfl
theorem dksX3_goWeek_4 : cX3_goWeek.data.toList.drop 92 = dktX3_goWeek_4 := dk_seg dksX3_goWeek_3 22 rfl rfl
theorem dksX3_goWeek_5 : cX3_goWeek.data.toList.drop 116 = dktX3_goWeek_5 := dk_seg dksX3_goWeek_4 24 rfl rfl
theorem dksX3_goWeek_6 : cX3_goWeek.data.toList.drop 140 = dktX3_goWeek_6 := dk_seg dksX3_goWeek_5 24 rfl rfl
theorem dksX3_goWeek_7 : cX3_goWeek.data.toList.drop 163 = dktX3_goWeek_7 := dk_seg dksX3_goWeek_6 23 rfl rfl
theorem dX3_goWeek_0 : decode cX3_goWeek 0 = .ok (.iconst 0, 1) := dk_3 (dk_at dksX3_goWeek_0 0 rfl rfl)
theorem dX3_goWeek_1 : decode cX3_goWeek 1 = .ok (.istore_n 2, 1) := dk_61 (dk_at dksX3_goWeek_0 1 rfl rfl)
theorem dX3_goWeek_2 : decode cX3_goWeek 2 = .ok (.iload_n 2, 1) := dk_28 (dk_at dksX3_goWeek_0 2 rfl rfl)
theorem dX3_goWeek_3 : decode cX3_goWeek 3 = .ok (.aload_n 1, 1) := dk_43 (dk_at dksX3_goWeek_0 3 rfl rfl)
theorem dX3_goWeek_4 : decode cX3_goWeek 4 = .ok (.getfield 24, 3) := dk_180 0 24 (dk_at dksX3_goWeek_0 4 rfl rfl)
theorem dX3_goWeek_7 : decode cX3_goWeek 7 = .ok (.invokevirtual 30, 3) := dk_182 0 30 (dk_at dksX3_goWeek_0 7 rfl rfl)
theorem dX3_goWeek_10 : decode cX3_goWeek 10 = .ok (.if_icmp .ge 32, 3) := dk_162 0 32 (dk_at dksX3_goWeek_0 10 rfl rfl)
theorem dX3_goWeek_13 : decode cX3_goWeek 13 = .ok (.aload_n 1, 1) := dk_43 (dk_at dksX3_goWeek_0 13 rfl rfl)
theorem dX3_goWeek_14 : decode cX3_goWeek 14 = .ok (.getfield 24, 3) := dk_180 0 24 (dk_at dksX3_goWeek_0 14 rfl rfl)
theorem dX3_goWeek_17 : decode cX3_goWeek 17 = .ok (.iload_n 2, 1) := dk_28 (dk_at dksX3_goWeek_0 17 rfl rfl)
theorem dX3_goWeek_18 : decode cX3_goWeek 18 = .ok (.invokevirtual 36, 3) := dk_182 0 36 (dk_at dksX3_goWeek_0 18 rfl rfl)
theorem dX3_goWeek_21 : decode cX3_goWeek 21 = .ok (.checkcast 40, 3) := dk_192 0 40 (dk_at dksX3_goWeek_0 21 rfl rfl)
theorem dX3_goWeek_24 : decode cX3_goWeek 24 = .ok (.getfield 92, 3) := dk_180 0 92 (dk_at dksX3_goWeek_1 0 rfl rfl)
theorem dX3_goWeek_27 : decode cX3_goWeek 27 = .ok (.ifCond .eq 9, 3) := dk_153 0 9 (dk_at dksX3_goWeek_1 3 rfl rfl)
theorem dX3_goWeek_30 : decode cX3_goWeek 30 = .ok (.aload_n 0, 1) := dk_42 (dk_at dksX3_goWeek_1 6 rfl rfl)
theorem dX3_goWeek_31 : decode cX3_goWeek 31 = .ok (.aload_n 1, 1) := dk_43 (dk_at dksX3_goWeek_1 7 rfl rfl)
theorem dX3_goWeek_32 : decode cX3_goWeek 32 = .ok (.iload_n 2, 1) := dk_28 (dk_at dksX3_goWeek_1 8 rfl rfl)
theorem dX3_goWeek_33 : decode cX3_goWeek 33 = .ok (.invokevirtual 96, 3) := dk_182 0 96 (dk_at dksX3_goWeek_1 9 rfl rfl)
theorem dX3_goWeek_36 : decode cX3_goWeek 36 = .ok (.iinc 2 1, 3) := dk_132 2 1 (dk_at dksX3_goWeek_1 12 rfl rfl)
theorem dX3_goWeek_39 : decode cX3_goWeek 39 = .ok (.goto (-37), 3) := dk_167 255 219 (dk_at dksX3_goWeek_1 15 rfl rfl)
theorem dX3_goWeek_42 : decode cX3_goWeek 42 = .ok (.aload_n 0, 1) := dk_42 (dk_at dksX3_goWeek_1 18 rfl rfl)
theorem dX3_goWeek_43 : decode cX3_goWeek 43 = .ok (.aload_n 1, 1) := dk_43 (dk_at dksX3_goWeek_1 19 rfl rfl)
theorem dX3_goWeek_44 : decode cX3_goWeek 44 = .ok (.invokevirtual 100, 3) := dk_182 0 100 (dk_at dksX3_goWeek_1 20 rfl rfl)
theorem dX3_goWeek_47 : decode cX3_goWeek 47 = .ok (.istore_n 2, 1) := dk_61 (dk_at dksX3_goWeek_1 23 rfl rfl)
theorem dX3_goWeek_48 : decode cX3_goWeek 48 = .ok (.iconst 0, 1) := dk_3 (dk_at dksX3_goWeek_2 0 rfl rfl)
theorem dX3_goWeek_49 : decode cX3_goWeek 49 = .ok (.istore_n 3, 1) := dk_62 (dk_at dksX3_goWeek_2 1 rfl rfl)
theorem dX3_goWeek_50 : decode cX3_goWeek 50 = .ok (.iload_n 3, 1) := dk_29 (dk_at dksX3_goWeek_2 2 rfl rfl)
theorem dX3_goWeek_51 : decode cX3_goWeek 51 = .ok (.aload_n 1, 1) := dk_43 (dk_at dksX3_goWeek_2 3 rfl rfl)
theorem dX3_goWeek_52 : decode cX3_goWeek 52 = .ok (.getfield 24, 3) := dk_180 0 24 (dk_at dksX3_goWeek_2 4 rfl rfl)
theorem dX3_goWeek_55 : decode cX3_goWeek 55 = .ok (.invokevirtual 30, 3) := dk_182 0 30 (dk_at dksX3_goWeek_2 7 rfl rfl)
theorem dX3_goWeek_58 : decode cX3_goWeek 58 = .ok (.if_icmp .ge 37, 3) := dk_162 0 37 (dk_at dksX3_goWeek_2 10 rfl rfl)
theorem dX3_goWeek_61 : decode cX3_goWeek 61 = .ok (.aload_n 0, 1) := dk_42 (dk_at dksX3_goWeek_2 13 rfl rfl)
theorem dX3_goWeek_62 : decode cX3_goWeek 62 = .ok (.getfield 18, 3) := dk_180 0 18 (dk_at dksX3_goWeek_2 14 rfl rfl)
theorem dX3_goWeek_65 : decode cX3_goWeek 65 = .ok (.iload_n 3, 1) := dk_29 (dk_at dksX3_goWeek_2 17 rfl rfl)
theorem dX3_goWeek_66 : decode cX3_goWeek 66 = .ok (.iconst 0, 1) := dk_3 (dk_at dksX3_goWeek_2 18 rfl rfl)
theorem dX3_goWeek_67 : decode cX3_goWeek 67 = .ok (.bipush 99, 2) := dk_16 99 (dk_at dksX3_goWeek_2 19 rfl rfl)
theorem dX3_goWeek_69 : decode cX3_goWeek 69 = .ok (.aload_n 0, 1) := dk_42 (dk_at dksX3_goWeek_2 21 rfl rfl)
theorem dX3_goWeek_70 : decode cX3_goWeek 70 = .ok (.getfield 18, 3) := dk_180 0 18 (dk_at dksX3_goWeek_3 0 rfl rfl)
theorem dX3_goWeek_73 : decode cX3_goWeek 73 = .ok (.iload_n 3, 1) := dk_29 (dk_at dksX3_goWeek_3 3 rfl rfl)
theorem dX3_goWeek_74 : decode cX3_goWeek 74 = .ok (.iaload, 1) := dk_46 (dk_at dksX3_goWeek_3 4 rfl rfl)
theorem dX3_goWeek_75 : decode cX3_goWeek 75 = .ok (.aload_n 0, 1) := dk_42 (dk_at dksX3_goWeek_3 5 rfl rfl)
theorem dX3_goWeek_76 : decode cX3_goWeek 76 = .ok (.aload_n 1, 1) := dk_43 (dk_at dksX3_goWeek_3 6 rfl rfl)
theorem dX3_goWeek_77 : decode cX3_goWeek 77 = .ok (.iload_n 3, 1) := dk_29 (dk_at dksX3_goWeek_3 7 rfl rfl)
theorem dX3_goWeek_78 : decode cX3_goWeek 78 = .ok (.invokevirtual 82, 3) := dk_182 0 82 (dk_at dksX3_goWeek_3 8 rfl rfl)
theorem dX3_goWeek_81 : decode cX3_goWeek 81 = .ok (.iadd, 1) := dk_96 (dk_at dksX3_goWeek_3 11 rfl rfl)
theorem dX3_goWeek_82 : decode cX3_goWeek 82 = .ok (.invokestatic 73, 3) := dk_184 0 73 (dk_at dksX3_goWeek_3 12 rfl rfl)
theorem dX3_goWeek_85 : decode cX3_goWeek 85 = .ok (.invokestatic 104, 3) := dk_184 0 104 (dk_at dksX3_goWeek_3 15 rfl rfl)
theorem dX3_goWeek_88 : decode cX3_goWeek 88 = .ok (.iastore, 1) := dk_79 (dk_at dksX3_goWeek_3 18 rfl rfl)
theorem dX3_goWeek_89 : decode cX3_goWeek 89 = .ok (.iinc 3 1, 3) := dk_132 3 1 (dk_at dksX3_goWeek_3 19 rfl rfl)
theorem dX3_goWeek_92 : decode cX3_goWeek 92 = .ok (.goto (-42), 3) := dk_167 255 214 (dk_at dksX3_goWeek_4 0 rfl rfl)
theorem dX3_goWeek_95 : decode cX3_goWeek 95 = .ok (.iconst 0, 1) := dk_3 (dk_at dksX3_goWeek_4 3 rfl rfl)
theorem dX3_goWeek_96 : decode cX3_goWeek 96 = .ok (.istore_n 3, 1) := dk_62 (dk_at dksX3_goWeek_4 4 rfl rfl)
theorem dX3_goWeek_97 : decode cX3_goWeek 97 = .ok (.iload_n 3, 1) := dk_29 (dk_at dksX3_goWeek_4 5 rfl rfl)
theorem dX3_goWeek_98 : decode cX3_goWeek 98 = .ok (.aload_n 1, 1) := dk_43 (dk_at dksX3_goWeek_4 6 rfl rfl)
theorem dX3_goWeek_99 : decode cX3_goWeek 99 = .ok (.getfield 24, 3) := dk_180 0 24 (dk_at dksX3_goWeek_4 7 rfl rfl)
theorem dX3_goWeek_102 : decode cX3_goWeek 102 = .ok (.invokevirtual 30, 3) := dk_182 0 30 (dk_at dksX3_goWeek_4 10 rfl rfl)
theorem dX3_goWeek_105 : decode cX3_goWeek 105 = .ok (.if_icmp .ge 67, 3) := dk_162 0 67 (dk_at dksX3_goWeek_4 13 rfl rfl)
theorem dX3_goWeek_108 : decode cX3_goWeek 108 = .ok (.aload_n 0, 1) := dk_42 (dk_at dksX3_goWeek_4 16 rfl rfl)
theorem dX3_goWeek_109 : decode cX3_goWeek 109 = .ok (.getfield 21, 3) := dk_180 0 21 (dk_at dksX3_goWeek_4 17 rfl rfl)
theorem dX3_goWeek_112 : decode cX3_goWeek 112 = .ok (.iload_n 3, 1) := dk_29 (dk_at dksX3_goWeek_4 20 rfl rfl)
theorem dX3_goWeek_113 : decode cX3_goWeek 113 = .ok (.iconst 0, 1) := dk_3 (dk_at dksX3_goWeek_4 21 rfl rfl)
theorem dX3_goWeek_114 : decode cX3_goWeek 114 = .ok (.iastore, 1) := dk_79 (dk_at dksX3_goWeek_4 22 rfl rfl)
theorem dX3_goWeek_115 : decode cX3_goWeek 115 = .ok (.iconst 0, 1) := dk_3 (dk_at dksX3_goWeek_4 23 rfl rfl)
theorem dX3_goWeek_116 : decode cX3_goWeek 116 = .ok (.istore 4, 2) := dk_54 4 (dk_at dksX3_goWeek_5 0 rfl rfl)
theorem dX3_goWeek_118 : decode cX3_goWeek 118 = .ok (.iload 4, 2) := dk_21 4 (dk_at dksX3_goWeek_5 2 rfl rfl)
theorem dX3_goWeek_120 : decode cX3_goWeek 120 = .ok (.iconst 3, 1) := dk_6 (dk_at dksX3_goWeek_5 4 rfl rfl)
theorem dX3_goWeek_121 : decode cX3_goWeek 121 = .ok (.if_icmp .ge 45, 3) := dk_162 0 45 (dk_at dksX3_goWeek_5 5 rfl rfl)
theorem dX3_goWeek_124 : decode cX3_goWeek 124 = .ok (.aload_n 0, 1) := dk_42 (dk_at dksX3_goWeek_5 8 rfl rfl)
theorem dX3_goWeek_125 : decode cX3_goWeek 125 = .ok (.getfield 15, 3) := dk_180 0 15 (dk_at dksX3_goWeek_5 9 rfl rfl)
theorem dX3_goWeek_128 : decode cX3_goWeek 128 = .ok (.iconst 3, 1) := dk_6 (dk_at dksX3_goWeek_5 12 rfl rfl)
theorem dX3_goWeek_129 : decode cX3_goWeek 129 = .ok (.iload_n 3, 1) := dk_29 (dk_at dksX3_goWeek_5 13 rfl rfl)
theorem dX3_goWeek_130 : decode cX3_goWeek 130 = .ok (.imul, 1) := dk_104 (dk_at dksX3_goWeek_5 14 rfl rfl)
theorem dX3_goWeek_131 : decode cX3_goWeek 131 = .ok (.iload 4, 2) := dk_21 4 (dk_at dksX3_goWeek_5 15 rfl rfl)
theorem dX3_goWeek_133 : decode cX3_goWeek 133 = .ok (.iadd, 1) := dk_96 (dk_at dksX3_goWeek_5 17 rfl rfl)
theorem dX3_goWeek_134 : decode cX3_goWeek 134 = .ok (.iconst 0, 1) := dk_3 (dk_at dksX3_goWeek_5 18 rfl rfl)
theorem dX3_goWeek_135 : decode cX3_goWeek 135 = .ok (.iastore, 1) := dk_79 (dk_at dksX3_goWeek_5 19 rfl rfl)
theorem dX3_goWeek_136 : decode cX3_goWeek 136 = .ok (.aload_n 0, 1) := dk_42 (dk_at dksX3_goWeek_5 20 rfl rfl)
theorem dX3_goWeek_137 : decode cX3_goWeek 137 = .ok (.iload_n 3, 1) := dk_29 (dk_at dksX3_goWeek_5 21 rfl rfl)
theorem dX3_goWeek_138 : decode cX3_goWeek 138 = .ok (.iload 4, 2) := dk_21 4 (dk_at dksX3_goWeek_5 22 rfl rfl)
theorem dX3_goWeek_140 : decode cX3_goWeek 140 = .ok (.aload_n 1, 1) := dk_43 (dk_at dksX3_goWeek_6 0 rfl rfl)
theorem dX3_goWeek_141 : decode cX3_goWeek 141 = .ok (.getfield 24, 3) := dk_180 0 24 (dk_at dksX3_goWeek_6 1 rfl rfl)
theorem dX3_goWeek_144 : decode cX3_goWeek 144 = .ok (.iload_n 3, 1) := dk_29 (dk_at dksX3_goWeek_6 4 rfl rfl)
theorem dX3_goWeek_145 : decode cX3_goWeek 145 = .ok (.invokevirtual 36, 3) := dk_182 0 36 (dk_at dksX3_goWeek_6 5 rfl rfl)
theorem dX3_goWeek_148 : decode cX3_goWeek 148 = .ok (.checkcast 40, 3) := dk_192 0 40 (dk_at dksX3_goWeek_6 8 rfl rfl)
theorem dX3_goWeek_151 : decode cX3_goWeek 151 = .ok (.getfield 107, 3) := dk_180 0 107 (dk_at dksX3_goWeek_6 11 rfl rfl)
theorem dX3_goWeek_154 : decode cX3_goWeek 154 = .ok (.iload 4, 2) := dk_21 4 (dk_at dksX3_goWeek_6 14 rfl rfl)
theorem dX3_goWeek_156 : decode cX3_goWeek 156 = .ok (.iaload, 1) := dk_46 (dk_at dksX3_goWeek_6 16 rfl rfl)
theorem dX3_goWeek_157 : decode cX3_goWeek 157 = .ok (.invokevirtual 110, 3) := dk_182 0 110 (dk_at dksX3_goWeek_6 17 rfl rfl)
theorem dX3_goWeek_160 : decode cX3_goWeek 160 = .ok (.iinc 4 1, 3) := dk_132 4 1 (dk_at dksX3_goWeek_6 20 rfl rfl)
theorem dX3_goWeek_163 : decode cX3_goWeek 163 = .ok (.goto (-45), 3) := dk_167 255 211 (dk_at dksX3_goWeek_7 0 rfl rfl)
theorem dX3_goWeek_166 : decode cX3_goWeek 166 = .ok (.iinc 3 1, 3) := dk_132 3 1 (dk_at dksX3_goWeek_7 3 rfl rfl)
theorem dX3_goWeek_169 : decode cX3_goWeek 169 = .ok (.goto (-72), 3) := dk_167 255 184 (dk_at dksX3_goWeek_7 6 rfl rfl)
theorem dX3_goWeek_172 : decode cX3_goWeek 172 = .ok (.aload_n 0, 1) := dk_42 (dk_at dksX3_goWeek_7 9 rfl rfl)
theorem dX3_goWeek_173 : decode cX3_goWeek 173 = .ok (.dup, 1) := dk_89 (dk_at dksX3_goWeek_7 10 rfl rfl)
theorem dX3_goWeek_174 : decode cX3_goWeek 174 = .ok (.getfield 46, 3) := dk_180 0 46 (dk_at dksX3_goWeek_7 11 rfl rfl)
theorem dX3_goWeek_177 : decode cX3_goWeek 177 = .ok (.iconst 1, 1) := dk_4 (dk_at dksX3_goWeek_7 14 rfl rfl)
theorem dX3_goWeek_178 : decode cX3_goWeek 178 = .ok (.iadd, 1) := dk_96 (dk_at dksX3_goWeek_7 15 rfl rfl)
theorem dX3_goWeek_179 : decode cX3_goWeek 179 = .ok (.putfield 46, 3) := dk_181 0 46 (dk_at dksX3_goWeek_7 16 rfl rfl)
theorem dX3_goWeek_182 : decode cX3_goWeek 182 = .ok (.iload_n 2, 1) := dk_28 (dk_at dksX3_goWeek_7 19 rfl rfl)
theorem dX3_goWeek_183 : decode cX3_goWeek 183 = .ok (.ireturn, 1) := dk_172 (dk_at dksX3_goWeek_7 20 rfl rfl)
abbrev cX3_drinks : ByteArray := prog_15_method_13_code
def yX3_drinks : MethodName := ⟨RX3, "drinks", "(LWeatherWages$Book;I)V"⟩
def dkwX3_drinks_2 : List UInt8 := [182, 0, 59, 158, 0, 11, 42, 43, 28, 29, 4, 182, 0, 70, 177]
abbrev dktX3_drinks_2 : List UInt8 := dkwX3_drinks_2 ++ []
def dkwX3_drinks_1 : List UInt8 := [182, 0, 88, 153, 0, 4, 177, 42, 180, 0, 52, 43, 180, 0, 85, 182, 0, 30, 112, 62, 42, 28, 29]
abbrev dktX3_drinks_1 : List UInt8 := dkwX3_drinks_1 ++ dktX3_drinks_2
def dkwX3_drinks_0 : List UInt8 := [42, 42, 180, 0, 52, 17, 0, 137, 104, 16, 71, 96, 17, 3, 232, 112, 181, 0, 52, 43, 180, 0, 85]
abbrev dktX3_drinks_0 : List UInt8 := dkwX3_drinks_0 ++ dktX3_drinks_1
theorem dksX3_drinks_0 : cX3_drinks.data.toList.drop 0 = dktX3_drinks_0 := by decide +kernel
theorem dksX3_drinks_1 : cX3_drinks.data.toList.drop 23 = dktX3_drinks_1 := dk_seg dksX3_drinks_0 23 rfl rfl
theorem dksX3_drinks_2 : cX3_drinks.data.toList.drop 46 = dktX3_drinks_2 := dk_seg dksX3_drinks_1 23 rfl rfl
theorem dX3_drinks_0 : decode cX3_drinks 0 = .ok (.aload_n 0, 1) := dk_42 (dk_at dksX3_drinks_0 0 rfl rfl)
theorem dX3_drinks_1 : decode cX3_drinks 1 = .ok (.aload_n 0, 1) := dk_42 (dk_at dksX3_drinks_0 1 rfl rfl)
theorem dX3_drinks_2 : decode cX3_drinks 2 = .ok (.getfield 52, 3) := dk_180 0 52 (dk_at dksX3_drinks_0 2 rfl rfl)
theorem dX3_drinks_5 : decode cX3_drinks 5 = .ok (.sipush 137, 3) := dk_17 0 137 (dk_at dksX3_drinks_0 5 rfl rfl)
theorem dX3_drinks_8 : decode cX3_drinks 8 = .ok (.imul, 1) := dk_104 (dk_at dksX3_drinks_0 8 rfl rfl)
theorem dX3_drinks_9 : decode cX3_drinks 9 = .ok (.bipush 71, 2) := dk_16 71 (dk_at dksX3_drinks_0 9 rfl rfl)
theorem dX3_drinks_11 : decode cX3_drinks 11 = .ok (.iadd, 1) := dk_96 (dk_at dksX3_drinks_0 11 rfl rfl)
theorem dX3_drinks_12 : decode cX3_drinks 12 = .ok (.sipush 1000, 3) := dk_17 3 232 (dk_at dksX3_drinks_0 12 rfl rfl)
theorem dX3_drinks_15 : decode cX3_drinks 15 = .ok (.irem, 1) := dk_112 (dk_at dksX3_drinks_0 15 rfl rfl)
theorem dX3_drinks_16 : decode cX3_drinks 16 = .ok (.putfield 52, 3) := dk_181 0 52 (dk_at dksX3_drinks_0 16 rfl rfl)
theorem dX3_drinks_19 : decode cX3_drinks 19 = .ok (.aload_n 1, 1) := dk_43 (dk_at dksX3_drinks_0 19 rfl rfl)
theorem dX3_drinks_20 : decode cX3_drinks 20 = .ok (.getfield 85, 3) := dk_180 0 85 (dk_at dksX3_drinks_0 20 rfl rfl)
theorem dX3_drinks_23 : decode cX3_drinks 23 = .ok (.invokevirtual 88, 3) := dk_182 0 88 (dk_at dksX3_drinks_1 0 rfl rfl)
theorem dX3_drinks_26 : decode cX3_drinks 26 = .ok (.ifCond .eq 4, 3) := dk_153 0 4 (dk_at dksX3_drinks_1 3 rfl rfl)
theorem dX3_drinks_29 : decode cX3_drinks 29 = .ok (.return_, 1) := dk_177 (dk_at dksX3_drinks_1 6 rfl rfl)
theorem dX3_drinks_30 : decode cX3_drinks 30 = .ok (.aload_n 0, 1) := dk_42 (dk_at dksX3_drinks_1 7 rfl rfl)
theorem dX3_drinks_31 : decode cX3_drinks 31 = .ok (.getfield 52, 3) := dk_180 0 52 (dk_at dksX3_drinks_1 8 rfl rfl)
theorem dX3_drinks_34 : decode cX3_drinks 34 = .ok (.aload_n 1, 1) := dk_43 (dk_at dksX3_drinks_1 11 rfl rfl)
theorem dX3_drinks_35 : decode cX3_drinks 35 = .ok (.getfield 85, 3) := dk_180 0 85 (dk_at dksX3_drinks_1 12 rfl rfl)
theorem dX3_drinks_38 : decode cX3_drinks 38 = .ok (.invokevirtual 30, 3) := dk_182 0 30 (dk_at dksX3_drinks_1 15 rfl rfl)
theorem dX3_drinks_41 : decode cX3_drinks 41 = .ok (.irem, 1) := dk_112 (dk_at dksX3_drinks_1 18 rfl rfl)
theorem dX3_drinks_42 : decode cX3_drinks 42 = .ok (.istore_n 3, 1) := dk_62 (dk_at dksX3_drinks_1 19 rfl rfl)
theorem dX3_drinks_43 : decode cX3_drinks 43 = .ok (.aload_n 0, 1) := dk_42 (dk_at dksX3_drinks_1 20 rfl rfl)
theorem dX3_drinks_44 : decode cX3_drinks 44 = .ok (.iload_n 2, 1) := dk_28 (dk_at dksX3_drinks_1 21 rfl rfl)
theorem dX3_drinks_45 : decode cX3_drinks 45 = .ok (.iload_n 3, 1) := dk_29 (dk_at dksX3_drinks_1 22 rfl rfl)
theorem dX3_drinks_46 : decode cX3_drinks 46 = .ok (.invokevirtual 59, 3) := dk_182 0 59 (dk_at dksX3_drinks_2 0 rfl rfl)
theorem dX3_drinks_49 : decode cX3_drinks 49 = .ok (.ifCond .le 11, 3) := dk_158 0 11 (dk_at dksX3_drinks_2 3 rfl rfl)
theorem dX3_drinks_52 : decode cX3_drinks 52 = .ok (.aload_n 0, 1) := dk_42 (dk_at dksX3_drinks_2 6 rfl rfl)
theorem dX3_drinks_53 : decode cX3_drinks 53 = .ok (.aload_n 1, 1) := dk_43 (dk_at dksX3_drinks_2 7 rfl rfl)
theorem dX3_drinks_54 : decode cX3_drinks 54 = .ok (.iload_n 2, 1) := dk_28 (dk_at dksX3_drinks_2 8 rfl rfl)
theorem dX3_drinks_55 : decode cX3_drinks 55 = .ok (.iload_n 3, 1) := dk_29 (dk_at dksX3_drinks_2 9 rfl rfl)
theorem dX3_drinks_56 : decode cX3_drinks 56 = .ok (.iconst 1, 1) := dk_4 (dk_at dksX3_drinks_2 10 rfl rfl)
theorem dX3_drinks_57 : decode cX3_drinks 57 = .ok (.invokevirtual 70, 3) := dk_182 0 70 (dk_at dksX3_drinks_2 11 rfl rfl)
theorem dX3_drinks_60 : decode cX3_drinks 60 = .ok (.return_, 1) := dk_177 (dk_at dksX3_drinks_2 14 rfl rfl)
abbrev cX3_growths : ByteArray := prog_15_method_12_code
def yX3_growths : MethodName := ⟨RX3, "growths", "(LWeatherWages$Book;)I"⟩
def dkwX3_growths_1 : List UInt8 := [132, 3, 1, 167, 255, 233, 28, 172]
abbrev dktX3_growths_1 : List UInt8 := dkwX3_growths_1 ++ []
def dkwX3_growths_0 : List UInt8 := [3, 61, 3, 62, 29, 43, 180, 0, 24, 182, 0, 30, 162, 0, 18, 28, 42, 43, 29, 182, 0, 82, 96, 61]
abbrev dktX3_growths_0 : List UInt8 := dkwX3_growths_0 ++ dktX3_growths_1
theorem dksX3_growths_0 : cX3_growths.data.toList.drop 0 = dktX3_growths_0 := by decide +kernel
theorem dksX3_growths_1 : cX3_growths.data.toList.drop 24 = dktX3_growths_1 := dk_seg dksX3_growths_0 24 rfl rfl
theorem dX3_growths_0 : decode cX3_growths 0 = .ok (.iconst 0, 1) := dk_3 (dk_at dksX3_growths_0 0 rfl rfl)
theorem dX3_growths_1 : decode cX3_growths 1 = .ok (.istore_n 2, 1) := dk_61 (dk_at dksX3_growths_0 1 rfl rfl)
theorem dX3_growths_2 : decode cX3_growths 2 = .ok (.iconst 0, 1) := dk_3 (dk_at dksX3_growths_0 2 rfl rfl)
theorem dX3_growths_3 : decode cX3_growths 3 = .ok (.istore_n 3, 1) := dk_62 (dk_at dksX3_growths_0 3 rfl rfl)
theorem dX3_growths_4 : decode cX3_growths 4 = .ok (.iload_n 3, 1) := dk_29 (dk_at dksX3_growths_0 4 rfl rfl)
theorem dX3_growths_5 : decode cX3_growths 5 = .ok (.aload_n 1, 1) := dk_43 (dk_at dksX3_growths_0 5 rfl rfl)
theorem dX3_growths_6 : decode cX3_growths 6 = .ok (.getfield 24, 3) := dk_180 0 24 (dk_at dksX3_growths_0 6 rfl rfl)
theorem dX3_growths_9 : decode cX3_growths 9 = .ok (.invokevirtual 30, 3) := dk_182 0 30 (dk_at dksX3_growths_0 9 rfl rfl)
theorem dX3_growths_12 : decode cX3_growths 12 = .ok (.if_icmp .ge 18, 3) := dk_162 0 18 (dk_at dksX3_growths_0 12 rfl rfl)
theorem dX3_growths_15 : decode cX3_growths 15 = .ok (.iload_n 2, 1) := dk_28 (dk_at dksX3_growths_0 15 rfl rfl)
theorem dX3_growths_16 : decode cX3_growths 16 = .ok (.aload_n 0, 1) := dk_42 (dk_at dksX3_growths_0 16 rfl rfl)
theorem dX3_growths_17 : decode cX3_growths 17 = .ok (.aload_n 1, 1) := dk_43 (dk_at dksX3_growths_0 17 rfl rfl)
theorem dX3_growths_18 : decode cX3_growths 18 = .ok (.iload_n 3, 1) := dk_29 (dk_at dksX3_growths_0 18 rfl rfl)
theorem dX3_growths_19 : decode cX3_growths 19 = .ok (.invokevirtual 82, 3) := dk_182 0 82 (dk_at dksX3_growths_0 19 rfl rfl)
theorem dX3_growths_22 : decode cX3_growths 22 = .ok (.iadd, 1) := dk_96 (dk_at dksX3_growths_0 22 rfl rfl)
theorem dX3_growths_23 : decode cX3_growths 23 = .ok (.istore_n 2, 1) := dk_61 (dk_at dksX3_growths_0 23 rfl rfl)
theorem dX3_growths_24 : decode cX3_growths 24 = .ok (.iinc 3 1, 3) := dk_132 3 1 (dk_at dksX3_growths_1 0 rfl rfl)
theorem dX3_growths_27 : decode cX3_growths 27 = .ok (.goto (-23), 3) := dk_167 255 233 (dk_at dksX3_growths_1 3 rfl rfl)
theorem dX3_growths_30 : decode cX3_growths 30 = .ok (.iload_n 2, 1) := dk_28 (dk_at dksX3_growths_1 6 rfl rfl)
theorem dX3_growths_31 : decode cX3_growths 31 = .ok (.ireturn, 1) := dk_172 (dk_at dksX3_growths_1 7 rfl rfl)
abbrev cX3_poursRow : ByteArray := prog_15_method_7_code
def yX3_poursRow : MethodName := ⟨RX3, "poursRow", "(LWeatherWages$Book;I[II)LWeatherWages$Plots;"⟩
def dkwX3_poursRow_1 : List UInt8 := [132, 5, 1, 167, 255, 232, 42, 176]
abbrev dktX3_poursRow_1 : List UInt8 := dkwX3_poursRow_1 ++ []
def dkwX3_poursRow_0 : List UInt8 := [3, 54, 5, 21, 5, 6, 162, 0, 24, 42, 43, 28, 21, 5, 45, 21, 4, 21, 5, 96, 46, 182, 0, 66]
abbrev dktX3_poursRow_0 : List UInt8 := dkwX3_poursRow_0 ++ dktX3_poursRow_1
theorem dksX3_poursRow_0 : cX3_poursRow.data.toList.drop 0 = dktX3_poursRow_0 := by decide +kernel
theorem dksX3_poursRow_1 : cX3_poursRow.data.toList.drop 24 = dktX3_poursRow_1 := dk_seg dksX3_poursRow_0 24 rfl rfl
theorem dX3_poursRow_0 : decode cX3_poursRow 0 = .ok (.iconst 0, 1) := dk_3 (dk_at dksX3_poursRow_0 0 rfl rfl)
theorem dX3_poursRow_1 : decode cX3_poursRow 1 = .ok (.istore 5, 2) := dk_54 5 (dk_at dksX3_poursRow_0 1 rfl rfl)
theorem dX3_poursRow_3 : decode cX3_poursRow 3 = .ok (.iload 5, 2) := dk_21 5 (dk_at dksX3_poursRow_0 3 rfl rfl)
theorem dX3_poursRow_5 : decode cX3_poursRow 5 = .ok (.iconst 3, 1) := dk_6 (dk_at dksX3_poursRow_0 5 rfl rfl)
theorem dX3_poursRow_6 : decode cX3_poursRow 6 = .ok (.if_icmp .ge 24, 3) := dk_162 0 24 (dk_at dksX3_poursRow_0 6 rfl rfl)
theorem dX3_poursRow_9 : decode cX3_poursRow 9 = .ok (.aload_n 0, 1) := dk_42 (dk_at dksX3_poursRow_0 9 rfl rfl)
theorem dX3_poursRow_10 : decode cX3_poursRow 10 = .ok (.aload_n 1, 1) := dk_43 (dk_at dksX3_poursRow_0 10 rfl rfl)
theorem dX3_poursRow_11 : decode cX3_poursRow 11 = .ok (.iload_n 2, 1) := dk_28 (dk_at dksX3_poursRow_0 11 rfl rfl)
theorem dX3_poursRow_12 : decode cX3_poursRow 12 = .ok (.iload 5, 2) := dk_21 5 (dk_at dksX3_poursRow_0 12 rfl rfl)
theorem dX3_poursRow_14 : decode cX3_poursRow 14 = .ok (.aload_n 3, 1) := dk_45 (dk_at dksX3_poursRow_0 14 rfl rfl)
theorem dX3_poursRow_15 : decode cX3_poursRow 15 = .ok (.iload 4, 2) := dk_21 4 (dk_at dksX3_poursRow_0 15 rfl rfl)
theorem dX3_poursRow_17 : decode cX3_poursRow 17 = .ok (.iload 5, 2) := dk_21 5 (dk_at dksX3_poursRow_0 17 rfl rfl)
theorem dX3_poursRow_19 : decode cX3_poursRow 19 = .ok (.iadd, 1) := dk_96 (dk_at dksX3_poursRow_0 19 rfl rfl)
theorem dX3_poursRow_20 : decode cX3_poursRow 20 = .ok (.iaload, 1) := dk_46 (dk_at dksX3_poursRow_0 20 rfl rfl)
theorem dX3_poursRow_21 : decode cX3_poursRow 21 = .ok (.invokevirtual 66, 3) := dk_182 0 66 (dk_at dksX3_poursRow_0 21 rfl rfl)
theorem dX3_poursRow_24 : decode cX3_poursRow 24 = .ok (.iinc 5 1, 3) := dk_132 5 1 (dk_at dksX3_poursRow_1 0 rfl rfl)
theorem dX3_poursRow_27 : decode cX3_poursRow 27 = .ok (.goto (-24), 3) := dk_167 255 232 (dk_at dksX3_poursRow_1 3 rfl rfl)
theorem dX3_poursRow_30 : decode cX3_poursRow 30 = .ok (.aload_n 0, 1) := dk_42 (dk_at dksX3_poursRow_1 6 rfl rfl)
theorem dX3_poursRow_31 : decode cX3_poursRow 31 = .ok (.areturn, 1) := dk_176 (dk_at dksX3_poursRow_1 7 rfl rfl)
abbrev cX3_spendsRow : ByteArray := prog_15_method_9_code
def yX3_spendsRow : MethodName := ⟨RX3, "spendsRow", "(LWeatherWages$Book;I[I)V"⟩
def dkwX3_spendsRow_1 : List UInt8 := [167, 255, 235, 177]
abbrev dktX3_spendsRow_1 : List UInt8 := dkwX3_spendsRow_1 ++ []
def dkwX3_spendsRow_0 : List UInt8 := [3, 54, 4, 21, 4, 6, 162, 0, 21, 42, 43, 28, 21, 4, 45, 21, 4, 46, 182, 0, 70, 132, 4, 1]
abbrev dktX3_spendsRow_0 : List UInt8 := dkwX3_spendsRow_0 ++ dktX3_spendsRow_1
theorem dksX3_spendsRow_0 : cX3_spendsRow.data.toList.drop 0 = dktX3_spendsRow_0 := by decide +kernel
theorem dksX3_spendsRow_1 : cX3_spendsRow.data.toList.drop 24 = dktX3_spendsRow_1 := dk_seg dksX3_spendsRow_0 24 rfl rfl
theorem dX3_spendsRow_0 : decode cX3_spendsRow 0 = .ok (.iconst 0, 1) := dk_3 (dk_at dksX3_spendsRow_0 0 rfl rfl)
theorem dX3_spendsRow_1 : decode cX3_spendsRow 1 = .ok (.istore 4, 2) := dk_54 4 (dk_at dksX3_spendsRow_0 1 rfl rfl)
theorem dX3_spendsRow_3 : decode cX3_spendsRow 3 = .ok (.iload 4, 2) := dk_21 4 (dk_at dksX3_spendsRow_0 3 rfl rfl)
theorem dX3_spendsRow_5 : decode cX3_spendsRow 5 = .ok (.iconst 3, 1) := dk_6 (dk_at dksX3_spendsRow_0 5 rfl rfl)
theorem dX3_spendsRow_6 : decode cX3_spendsRow 6 = .ok (.if_icmp .ge 21, 3) := dk_162 0 21 (dk_at dksX3_spendsRow_0 6 rfl rfl)
theorem dX3_spendsRow_9 : decode cX3_spendsRow 9 = .ok (.aload_n 0, 1) := dk_42 (dk_at dksX3_spendsRow_0 9 rfl rfl)
theorem dX3_spendsRow_10 : decode cX3_spendsRow 10 = .ok (.aload_n 1, 1) := dk_43 (dk_at dksX3_spendsRow_0 10 rfl rfl)
theorem dX3_spendsRow_11 : decode cX3_spendsRow 11 = .ok (.iload_n 2, 1) := dk_28 (dk_at dksX3_spendsRow_0 11 rfl rfl)
theorem dX3_spendsRow_12 : decode cX3_spendsRow 12 = .ok (.iload 4, 2) := dk_21 4 (dk_at dksX3_spendsRow_0 12 rfl rfl)
theorem dX3_spendsRow_14 : decode cX3_spendsRow 14 = .ok (.aload_n 3, 1) := dk_45 (dk_at dksX3_spendsRow_0 14 rfl rfl)
theorem dX3_spendsRow_15 : decode cX3_spendsRow 15 = .ok (.iload 4, 2) := dk_21 4 (dk_at dksX3_spendsRow_0 15 rfl rfl)
theorem dX3_spendsRow_17 : decode cX3_spendsRow 17 = .ok (.iaload, 1) := dk_46 (dk_at dksX3_spendsRow_0 17 rfl rfl)
theorem dX3_spendsRow_18 : decode cX3_spendsRow 18 = .ok (.invokevirtual 70, 3) := dk_182 0 70 (dk_at dksX3_spendsRow_0 18 rfl rfl)
theorem dX3_spendsRow_21 : decode cX3_spendsRow 21 = .ok (.iinc 4 1, 3) := dk_132 4 1 (dk_at dksX3_spendsRow_0 21 rfl rfl)
theorem dX3_spendsRow_24 : decode cX3_spendsRow 24 = .ok (.goto (-21), 3) := dk_167 255 235 (dk_at dksX3_spendsRow_1 0 rfl rfl)
theorem dX3_spendsRow_27 : decode cX3_spendsRow 27 = .ok (.return_, 1) := dk_177 (dk_at dksX3_spendsRow_1 3 rfl rfl)
theorem q147 : (Jvm.Cond.initialized "WeatherWages$Plots") ∈ lw_all := lw_g (lw_at lw_m1 7 rfl) rfl
theorem q253 : (Jvm.Cond.fieldLink "WeatherWages$Plots" (85 : Nat) "WeatherWages$Book" "kinds" "Ljava/util/ArrayList;") ∈ lw_all := lw_g (lw_at lw_m1 113 rfl) rfl
theorem q256 : (Jvm.Cond.fieldLink "WeatherWages$Plots" (24 : Nat) "WeatherWages$Book" "men" "Ljava/util/ArrayList;") ∈ lw_all := lw_g (lw_at lw_m1 116 rfl) rfl
theorem q273 : (Jvm.Cond.fieldLink "WeatherWages$Plots" (49 : Nat) "WeatherWages$Book" "seed" "I") ∈ lw_all := lw_g (lw_at lw_m1 133 rfl) rfl
theorem q299 : (Jvm.Cond.instantiable "WeatherWages$Plots" (6 : Nat)) ∈ lw_all := lw_g (lw_at lw_m1 159 rfl) rfl
theorem q301 : (Jvm.Cond.instanceMethod ({ cls := "WeatherWages$Plots", name := "<init>", desc := "()V" } : Jvm.MethodName)) ∈ lw_all := lw_g (lw_at lw_m1 161 rfl) rfl
theorem q302 : (Jvm.Cond.code ({ cls := "WeatherWages$Plots", name := "<init>", desc := "()V" } : Jvm.MethodName) prog_15_method_1_code (1 : Nat) (Option.none : Option Jvm.ClassFile.FieldType)) ∈ lw_all := lw_g (lw_at lw_m1 162 rfl) rfl
theorem q303 : (Jvm.Cond.methodLink "WeatherWages$Plots" (3 : Nat) ({ cls := "java/lang/Object", name := "<init>", desc := "()V" } : Jvm.MethodName)) ∈ lw_all := lw_g (lw_at lw_m1 163 rfl) rfl
theorem q304 : (Jvm.Cond.fieldLink "WeatherWages$Plots" (9 : Nat) "WeatherWages$Plots" "purse" "[I") ∈ lw_all := lw_g (lw_at lw_m1 164 rfl) rfl
theorem q306 : (Jvm.Cond.fieldLink "WeatherWages$Plots" (15 : Nat) "WeatherWages$Plots" "over" "[I") ∈ lw_all := lw_g (lw_at lw_m1 166 rfl) rfl
theorem q308 : (Jvm.Cond.fieldLink "WeatherWages$Plots" (18 : Nat) "WeatherWages$Plots" "crop" "[I") ∈ lw_all := lw_g (lw_at lw_m1 168 rfl) rfl
theorem q310 : (Jvm.Cond.fieldLink "WeatherWages$Plots" (21 : Nat) "WeatherWages$Plots" "spent" "[I") ∈ lw_all := lw_g (lw_at lw_m1 170 rfl) rfl
theorem q312 : (Jvm.Cond.fieldLink "WeatherWages$Plots" (46 : Nat) "WeatherWages$Plots" "week" "I") ∈ lw_all := lw_g (lw_at lw_m1 172 rfl) rfl
theorem q314 : (Jvm.Cond.fieldLink "WeatherWages$Plots" (52 : Nat) "WeatherWages$Plots" "seed" "I") ∈ lw_all := lw_g (lw_at lw_m1 174 rfl) rfl
theorem q316 : (Jvm.Cond.laysFinal "WeatherWages$Plots" "WeatherWages$Plots" "purse" "[I") ∈ lw_all := lw_g (lw_at lw_m1 176 rfl) rfl
theorem q317 : (Jvm.Cond.soleField "WeatherWages$Plots" "purse") ∈ lw_all := lw_g (lw_at lw_m1 177 rfl) rfl
theorem q318 : (Jvm.Cond.laysFinal "WeatherWages$Plots" "WeatherWages$Plots" "over" "[I") ∈ lw_all := lw_g (lw_at lw_m1 178 rfl) rfl
theorem q319 : (Jvm.Cond.soleField "WeatherWages$Plots" "over") ∈ lw_all := lw_g (lw_at lw_m1 179 rfl) rfl
theorem q320 : (Jvm.Cond.laysFinal "WeatherWages$Plots" "WeatherWages$Plots" "crop" "[I") ∈ lw_all := lw_g (lw_at lw_m1 180 rfl) rfl
theorem q321 : (Jvm.Cond.soleField "WeatherWages$Plots" "crop") ∈ lw_all := lw_g (lw_at lw_m1 181 rfl) rfl
theorem q322 : (Jvm.Cond.laysFinal "WeatherWages$Plots" "WeatherWages$Plots" "spent" "[I") ∈ lw_all := lw_g (lw_at lw_m1 182 rfl) rfl
theorem q323 : (Jvm.Cond.soleField "WeatherWages$Plots" "spent") ∈ lw_all := lw_g (lw_at lw_m1 183 rfl) rfl
theorem q324 : (Jvm.Cond.lays "WeatherWages$Plots" "WeatherWages$Plots" "week" "I") ∈ lw_all := lw_g (lw_at lw_m1 184 rfl) rfl
theorem q325 : (Jvm.Cond.soleField "WeatherWages$Plots" "week") ∈ lw_all := lw_g (lw_at lw_m1 185 rfl) rfl
theorem q326 : (Jvm.Cond.lays "WeatherWages$Plots" "WeatherWages$Plots" "seed" "I") ∈ lw_all := lw_g (lw_at lw_m1 186 rfl) rfl
theorem q327 : (Jvm.Cond.soleField "WeatherWages$Plots" "seed") ∈ lw_all := lw_g (lw_at lw_m1 187 rfl) rfl
theorem q328 : (Jvm.Cond.superclass "WeatherWages$Plots" "java/lang/Object") ∈ lw_all := lw_g (lw_at lw_m1 188 rfl) rfl
theorem q330 : (Jvm.Cond.instanceMethod ({ cls := "WeatherWages$Plots", name := "begin", desc := "(LWeatherWages$Book;)LWeatherWages$Plots;" } : Jvm.MethodName)) ∈ lw_all := lw_g (lw_at lw_m1 190 rfl) rfl
theorem q331 : (Jvm.Cond.selects "WeatherWages$Plots" ({ cls := "WeatherWages$Plots", name := "begin", desc := "(LWeatherWages$Book;)LWeatherWages$Plots;" } : Jvm.MethodName) ({ cls := "WeatherWages$Plots", name := "begin", desc := "(LWeatherWages$Book;)LWeatherWages$Plots;" } : Jvm.MethodName)) ∈ lw_all := lw_g (lw_at lw_m1 191 rfl) rfl
theorem q332 : (Jvm.Cond.code ({ cls := "WeatherWages$Plots", name := "begin", desc := "(LWeatherWages$Book;)LWeatherWages$Plots;" } : Jvm.MethodName) prog_15_method_2_code (4 : Nat) (Option.some (Jvm.ClassFile.FieldType.object "WeatherWages$Plots"))) ∈ lw_all := lw_g (lw_at lw_m1 192 rfl) rfl
theorem q333 : (Jvm.Cond.methodLink "WeatherWages$Plots" (30 : Nat) ({ cls := "java/util/ArrayList", name := "size", desc := "()I" } : Jvm.MethodName)) ∈ lw_all := lw_g (lw_at lw_m1 193 rfl) rfl
theorem q337 : (Jvm.Cond.methodLink "WeatherWages$Plots" (36 : Nat) ({ cls := "java/util/ArrayList", name := "get", desc := "(I)Ljava/lang/Object;" } : Jvm.MethodName)) ∈ lw_all := lw_g (lw_at lw_m1 197 rfl) rfl
theorem q351 : (Jvm.Cond.classLink "WeatherWages$Plots" (40 : Nat) "WeatherWages$Man") ∈ lw_all := lw_g (lw_at lw_m1 211 rfl) rfl
theorem q937 : (Jvm.Cond.selects "WeatherWages$Plots" ({ cls := "java/lang/Object", name := "getClass", desc := "()Ljava/lang/Class;" } : Jvm.MethodName) ({ cls := "java/lang/Object", name := "getClass", desc := "()Ljava/lang/Class;" } : Jvm.MethodName)) ∈ lw_all := lw_g (lw_at lw_m4 77 rfl) rfl
theorem q974 : (Jvm.Cond.fieldLink "WeatherWages$Plots" (45 : Nat) "WeatherWages$Man" "purse" "[I") ∈ lw_all := lw_g (lw_at lw_m4 114 rfl) rfl
theorem q977 : (Jvm.Cond.fieldLink "WeatherWages$Plots" (107 : Nat) "WeatherWages$Man" "pay" "[I") ∈ lw_all := lw_g (lw_at lw_m4 117 rfl) rfl
theorem q980 : (Jvm.Cond.fieldLink "WeatherWages$Plots" (42 : Nat) "WeatherWages$Man" "crop" "I") ∈ lw_all := lw_g (lw_at lw_m4 120 rfl) rfl
theorem q989 : (Jvm.Cond.fieldLink "WeatherWages$Plots" (92 : Nat) "WeatherWages$Man" "isLoose" "Z") ∈ lw_all := lw_g (lw_at lw_m4 129 rfl) rfl
theorem q1254 : (Jvm.Cond.instanceMethod ({ cls := "WeatherWages$Plots", name := "growth", desc := "(LWeatherWages$Book;I)I" } : Jvm.MethodName)) ∈ lw_all := lw_g (lw_at lw_m5 154 rfl) rfl
theorem q1255 : (Jvm.Cond.selects "WeatherWages$Plots" ({ cls := "WeatherWages$Plots", name := "growth", desc := "(LWeatherWages$Book;I)I" } : Jvm.MethodName) ({ cls := "WeatherWages$Plots", name := "growth", desc := "(LWeatherWages$Book;I)I" } : Jvm.MethodName)) ∈ lw_all := lw_g (lw_at lw_m5 155 rfl) rfl
theorem q1256 : (Jvm.Cond.code ({ cls := "WeatherWages$Plots", name := "growth", desc := "(LWeatherWages$Book;I)I" } : Jvm.MethodName) prog_15_method_11_code (3 : Nat) (Option.some Jvm.ClassFile.FieldType.int)) ∈ lw_all := lw_g (lw_at lw_m5 156 rfl) rfl
theorem q1257 : (Jvm.Cond.methodLink "WeatherWages$Plots" (78 : Nat) ({ cls := "WeatherWages$Book", name := "growth", desc := "([IIII)I" } : Jvm.MethodName)) ∈ lw_all := lw_g (lw_at lw_m5 157 rfl) rfl
theorem q1326 : (Jvm.Cond.instanceMethod ({ cls := "WeatherWages$Plots", name := "rich", desc := "(I)I" } : Jvm.MethodName)) ∈ lw_all := lw_g (lw_at lw_m5 226 rfl) rfl
theorem q1327 : (Jvm.Cond.selects "WeatherWages$Plots" ({ cls := "WeatherWages$Plots", name := "rich", desc := "(I)I" } : Jvm.MethodName) ({ cls := "WeatherWages$Plots", name := "rich", desc := "(I)I" } : Jvm.MethodName)) ∈ lw_all := lw_g (lw_at lw_m5 227 rfl) rfl
theorem q1328 : (Jvm.Cond.code ({ cls := "WeatherWages$Plots", name := "rich", desc := "(I)I" } : Jvm.MethodName) prog_15_method_5_code (2 : Nat) (Option.some Jvm.ClassFile.FieldType.int)) ∈ lw_all := lw_g (lw_at lw_m5 228 rfl) rfl
theorem q1329 : (Jvm.Cond.methodLink "WeatherWages$Plots" (59 : Nat) ({ cls := "WeatherWages$Plots", name := "purse", desc := "(II)I" } : Jvm.MethodName)) ∈ lw_all := lw_g (lw_at lw_m5 229 rfl) rfl
theorem q1330 : (Jvm.Cond.instanceMethod ({ cls := "WeatherWages$Plots", name := "purse", desc := "(II)I" } : Jvm.MethodName)) ∈ lw_all := lw_g (lw_at lw_m5 230 rfl) rfl
theorem q1331 : (Jvm.Cond.selects "WeatherWages$Plots" ({ cls := "WeatherWages$Plots", name := "purse", desc := "(II)I" } : Jvm.MethodName) ({ cls := "WeatherWages$Plots", name := "purse", desc := "(II)I" } : Jvm.MethodName)) ∈ lw_all := lw_g (lw_at lw_m5 231 rfl) rfl
theorem q1332 : (Jvm.Cond.code ({ cls := "WeatherWages$Plots", name := "purse", desc := "(II)I" } : Jvm.MethodName) prog_15_method_4_code (3 : Nat) (Option.some Jvm.ClassFile.FieldType.int)) ∈ lw_all := lw_g (lw_at lw_m5 232 rfl) rfl
theorem q1382 : (Jvm.Cond.instanceMethod ({ cls := "WeatherWages$Plots", name := "copy", desc := "(LWeatherWages$Plots;)LWeatherWages$Plots;" } : Jvm.MethodName)) ∈ lw_all := lw_g (lw_at lw_m6 42 rfl) rfl
theorem q1383 : (Jvm.Cond.selects "WeatherWages$Plots" ({ cls := "WeatherWages$Plots", name := "copy", desc := "(LWeatherWages$Plots;)LWeatherWages$Plots;" } : Jvm.MethodName) ({ cls := "WeatherWages$Plots", name := "copy", desc := "(LWeatherWages$Plots;)LWeatherWages$Plots;" } : Jvm.MethodName)) ∈ lw_all := lw_g (lw_at lw_m6 43 rfl) rfl
theorem q1384 : (Jvm.Cond.code ({ cls := "WeatherWages$Plots", name := "copy", desc := "(LWeatherWages$Plots;)LWeatherWages$Plots;" } : Jvm.MethodName) prog_15_method_3_code (2 : Nat) (Option.some (Jvm.ClassFile.FieldType.object "WeatherWages$Plots"))) ∈ lw_all := lw_g (lw_at lw_m6 44 rfl) rfl
theorem q1385 : (Jvm.Cond.methodLink "WeatherWages$Plots" (53 : Nat) ({ cls := "java/lang/System", name := "arraycopy", desc := "(Ljava/lang/Object;ILjava/lang/Object;II)V" } : Jvm.MethodName)) ∈ lw_all := lw_g (lw_at lw_m6 45 rfl) rfl
theorem q1387 : (Jvm.Cond.instanceMethod ({ cls := "WeatherWages$Plots", name := "spends", desc := "(LWeatherWages$Book;III)V" } : Jvm.MethodName)) ∈ lw_all := lw_g (lw_at lw_m6 47 rfl) rfl
theorem q1388 : (Jvm.Cond.selects "WeatherWages$Plots" ({ cls := "WeatherWages$Plots", name := "spends", desc := "(LWeatherWages$Book;III)V" } : Jvm.MethodName) ({ cls := "WeatherWages$Plots", name := "spends", desc := "(LWeatherWages$Book;III)V" } : Jvm.MethodName)) ∈ lw_all := lw_g (lw_at lw_m6 48 rfl) rfl
theorem q1389 : (Jvm.Cond.code ({ cls := "WeatherWages$Plots", name := "spends", desc := "(LWeatherWages$Book;III)V" } : Jvm.MethodName) prog_15_method_8_code (5 : Nat) (Option.none : Option Jvm.ClassFile.FieldType)) ∈ lw_all := lw_g (lw_at lw_m6 49 rfl) rfl
theorem q1390 : (Jvm.Cond.methodLink "WeatherWages$Plots" (66 : Nat) ({ cls := "WeatherWages$Plots", name := "pours", desc := "(LWeatherWages$Book;III)V" } : Jvm.MethodName)) ∈ lw_all := lw_g (lw_at lw_m6 50 rfl) rfl
theorem q1391 : (Jvm.Cond.privateMethod ({ cls := "WeatherWages$Plots", name := "pours", desc := "(LWeatherWages$Book;III)V" } : Jvm.MethodName)) ∈ lw_tbl := lw_at lw_m6 51 rfl
theorem q1392 : (Jvm.Cond.instanceMethod ({ cls := "WeatherWages$Plots", name := "pours", desc := "(LWeatherWages$Book;III)V" } : Jvm.MethodName)) ∈ lw_all := lw_g (lw_at lw_m6 52 rfl) rfl
theorem q1393 : (Jvm.Cond.code ({ cls := "WeatherWages$Plots", name := "pours", desc := "(LWeatherWages$Book;III)V" } : Jvm.MethodName) prog_15_method_6_code (5 : Nat) (Option.none : Option Jvm.ClassFile.FieldType)) ∈ lw_all := lw_g (lw_at lw_m6 53 rfl) rfl
theorem q1394 : (Jvm.Cond.methodLink "WeatherWages$Plots" (62 : Nat) ({ cls := "WeatherWages$Book", name := "hedge", desc := "(I)I" } : Jvm.MethodName)) ∈ lw_all := lw_g (lw_at lw_m6 54 rfl) rfl
theorem q1407 : (Jvm.Cond.instanceMethod ({ cls := "WeatherWages$Plots", name := "gets", desc := "(III)V" } : Jvm.MethodName)) ∈ lw_all := lw_g (lw_at lw_m6 67 rfl) rfl
theorem q1408 : (Jvm.Cond.selects "WeatherWages$Plots" ({ cls := "WeatherWages$Plots", name := "gets", desc := "(III)V" } : Jvm.MethodName) ({ cls := "WeatherWages$Plots", name := "gets", desc := "(III)V" } : Jvm.MethodName)) ∈ lw_all := lw_g (lw_at lw_m6 68 rfl) rfl
theorem q1409 : (Jvm.Cond.code ({ cls := "WeatherWages$Plots", name := "gets", desc := "(III)V" } : Jvm.MethodName) prog_15_method_10_code (4 : Nat) (Option.none : Option Jvm.ClassFile.FieldType)) ∈ lw_all := lw_g (lw_at lw_m6 69 rfl) rfl
theorem q1410 : (Jvm.Cond.methodLink "WeatherWages$Plots" (73 : Nat) ({ cls := "java/lang/Math", name := "min", desc := "(II)I" } : Jvm.MethodName)) ∈ lw_all := lw_g (lw_at lw_m6 70 rfl) rfl
theorem q1421 : (Jvm.Cond.instanceMethod ({ cls := "WeatherWages$Plots", name := "goWeek", desc := "(LWeatherWages$Book;)I" } : Jvm.MethodName)) ∈ lw_all := lw_g (lw_at lw_m6 81 rfl) rfl
theorem q1422 : (Jvm.Cond.selects "WeatherWages$Plots" ({ cls := "WeatherWages$Plots", name := "goWeek", desc := "(LWeatherWages$Book;)I" } : Jvm.MethodName) ({ cls := "WeatherWages$Plots", name := "goWeek", desc := "(LWeatherWages$Book;)I" } : Jvm.MethodName)) ∈ lw_all := lw_g (lw_at lw_m6 82 rfl) rfl
theorem q1423 : (Jvm.Cond.code ({ cls := "WeatherWages$Plots", name := "goWeek", desc := "(LWeatherWages$Book;)I" } : Jvm.MethodName) prog_15_method_14_code (5 : Nat) (Option.some Jvm.ClassFile.FieldType.int)) ∈ lw_all := lw_g (lw_at lw_m6 83 rfl) rfl
theorem q1424 : (Jvm.Cond.methodLink "WeatherWages$Plots" (96 : Nat) ({ cls := "WeatherWages$Plots", name := "drinks", desc := "(LWeatherWages$Book;I)V" } : Jvm.MethodName)) ∈ lw_all := lw_g (lw_at lw_m6 84 rfl) rfl
theorem q1425 : (Jvm.Cond.privateMethod ({ cls := "WeatherWages$Plots", name := "drinks", desc := "(LWeatherWages$Book;I)V" } : Jvm.MethodName)) ∈ lw_tbl := lw_at lw_m6 85 rfl
theorem q1426 : (Jvm.Cond.instanceMethod ({ cls := "WeatherWages$Plots", name := "drinks", desc := "(LWeatherWages$Book;I)V" } : Jvm.MethodName)) ∈ lw_all := lw_g (lw_at lw_m6 86 rfl) rfl
theorem q1427 : (Jvm.Cond.code ({ cls := "WeatherWages$Plots", name := "drinks", desc := "(LWeatherWages$Book;I)V" } : Jvm.MethodName) prog_15_method_13_code (4 : Nat) (Option.none : Option Jvm.ClassFile.FieldType)) ∈ lw_all := lw_g (lw_at lw_m6 87 rfl) rfl
theorem q1428 : (Jvm.Cond.methodLink "WeatherWages$Plots" (88 : Nat) ({ cls := "java/util/ArrayList", name := "isEmpty", desc := "()Z" } : Jvm.MethodName)) ∈ lw_all := lw_g (lw_at lw_m6 88 rfl) rfl
theorem q1432 : (Jvm.Cond.methodLink "WeatherWages$Plots" (70 : Nat) ({ cls := "WeatherWages$Plots", name := "spends", desc := "(LWeatherWages$Book;III)V" } : Jvm.MethodName)) ∈ lw_all := lw_g (lw_at lw_m6 92 rfl) rfl
theorem q1433 : (Jvm.Cond.methodLink "WeatherWages$Plots" (100 : Nat) ({ cls := "WeatherWages$Plots", name := "growths", desc := "(LWeatherWages$Book;)I" } : Jvm.MethodName)) ∈ lw_all := lw_g (lw_at lw_m6 93 rfl) rfl
theorem q1434 : (Jvm.Cond.instanceMethod ({ cls := "WeatherWages$Plots", name := "growths", desc := "(LWeatherWages$Book;)I" } : Jvm.MethodName)) ∈ lw_all := lw_g (lw_at lw_m6 94 rfl) rfl
theorem q1435 : (Jvm.Cond.selects "WeatherWages$Plots" ({ cls := "WeatherWages$Plots", name := "growths", desc := "(LWeatherWages$Book;)I" } : Jvm.MethodName) ({ cls := "WeatherWages$Plots", name := "growths", desc := "(LWeatherWages$Book;)I" } : Jvm.MethodName)) ∈ lw_all := lw_g (lw_at lw_m6 95 rfl) rfl
theorem q1436 : (Jvm.Cond.code ({ cls := "WeatherWages$Plots", name := "growths", desc := "(LWeatherWages$Book;)I" } : Jvm.MethodName) prog_15_method_12_code (4 : Nat) (Option.some Jvm.ClassFile.FieldType.int)) ∈ lw_all := lw_g (lw_at lw_m6 96 rfl) rfl
theorem q1437 : (Jvm.Cond.methodLink "WeatherWages$Plots" (82 : Nat) ({ cls := "WeatherWages$Plots", name := "growth", desc := "(LWeatherWages$Book;I)I" } : Jvm.MethodName)) ∈ lw_all := lw_g (lw_at lw_m6 97 rfl) rfl
theorem q1438 : (Jvm.Cond.methodLink "WeatherWages$Plots" (104 : Nat) ({ cls := "java/lang/Math", name := "max", desc := "(II)I" } : Jvm.MethodName)) ∈ lw_all := lw_g (lw_at lw_m6 98 rfl) rfl
theorem q1439 : (Jvm.Cond.methodLink "WeatherWages$Plots" (110 : Nat) ({ cls := "WeatherWages$Plots", name := "gets", desc := "(III)V" } : Jvm.MethodName)) ∈ lw_all := lw_g (lw_at lw_m6 99 rfl) rfl
theorem q1473 : (Jvm.Cond.instanceMethod ({ cls := "WeatherWages$Plots", name := "poursRow", desc := "(LWeatherWages$Book;I[II)LWeatherWages$Plots;" } : Jvm.MethodName)) ∈ lw_all := lw_g (lw_at lw_m6 133 rfl) rfl
theorem q1474 : (Jvm.Cond.selects "WeatherWages$Plots" ({ cls := "WeatherWages$Plots", name := "poursRow", desc := "(LWeatherWages$Book;I[II)LWeatherWages$Plots;" } : Jvm.MethodName) ({ cls := "WeatherWages$Plots", name := "poursRow", desc := "(LWeatherWages$Book;I[II)LWeatherWages$Plots;" } : Jvm.MethodName)) ∈ lw_all := lw_g (lw_at lw_m6 134 rfl) rfl
theorem q1475 : (Jvm.Cond.code ({ cls := "WeatherWages$Plots", name := "poursRow", desc := "(LWeatherWages$Book;I[II)LWeatherWages$Plots;" } : Jvm.MethodName) prog_15_method_7_code (6 : Nat) (Option.some (Jvm.ClassFile.FieldType.object "WeatherWages$Plots"))) ∈ lw_all := lw_g (lw_at lw_m6 135 rfl) rfl
theorem q1542 : (Jvm.Cond.instanceMethod ({ cls := "WeatherWages$Plots", name := "spendsRow", desc := "(LWeatherWages$Book;I[I)V" } : Jvm.MethodName)) ∈ lw_all := lw_g (lw_at lw_m6 202 rfl) rfl
theorem q1543 : (Jvm.Cond.selects "WeatherWages$Plots" ({ cls := "WeatherWages$Plots", name := "spendsRow", desc := "(LWeatherWages$Book;I[I)V" } : Jvm.MethodName) ({ cls := "WeatherWages$Plots", name := "spendsRow", desc := "(LWeatherWages$Book;I[I)V" } : Jvm.MethodName)) ∈ lw_all := lw_g (lw_at lw_m6 203 rfl) rfl
theorem q1544 : (Jvm.Cond.code ({ cls := "WeatherWages$Plots", name := "spendsRow", desc := "(LWeatherWages$Book;I[I)V" } : Jvm.MethodName) prog_15_method_9_code (5 : Nat) (Option.none : Option Jvm.ClassFile.FieldType)) ∈ lw_all := lw_g (lw_at lw_m6 204 rfl) rfl
theorem q2459 : (Jvm.Cond.castable "WeatherWages$Plots" "java/lang/Object") ∈ lw_tbl := lw_at lw_m10 159 rfl
theorem in_X3 : ∀ w ∈ wsX30, w ∈ lw_all := lw_in wsX30 [316, 318, 320, 322, 324, 326] (by decide +kernel) (by decide +kernel)
/-! WeatherWages$Reader -/
set_option maxRecDepth 100000
def RX5 : String := "WeatherWages$Reader"
def TX5 : u_T := fun k => match k with
  | 0 => ("WeatherWages$Reader", "at", "I", false)
  | 1 => ("WeatherWages$Reader", "sort", "I", false)
  | 2 => ("WeatherWages$Reader", "place", "I", false)
  | 3 => ("WeatherWages$Reader", "number", "I", false)
  | 4 => ("WeatherWages$Reader", "deep", "I", false)
  | 5 => ("WeatherWages$Reader", "own", "I", false)
  | 6 => ("WeatherWages$Reader", "hasHours", "Z", false)
  | 7 => ("WeatherWages$Reader", "hasDraw", "Z", false)
  | 8 => ("WeatherWages$Reader", "word", "Ljava/lang/String;", false)
  | 9 => ("WeatherWages$Reader", "made", "LWeatherWages$Book;", true)
  | _ => ("WeatherWages$Reader", "this$0", "LWeatherWages;", true)
def tyX5 : Nat → FieldType := fun k => match k with
  | 0 => .int
  | 1 => .int
  | 2 => .int
  | 3 => .int
  | 4 => .int
  | 5 => .int
  | 6 => .boolean
  | 7 => .boolean
  | 8 => .object "java/lang/String"
  | 9 => .object "WeatherWages$Book"
  | _ => .object "WeatherWages"
abbrev wsX50 : List Cond := u_ws RX5 TX5 11
theorem nmX5 : ∀ a, a < 11 → ∀ b, b < 11 → a ≠ b → (TX5 a).2.1 ≠ (TX5 b).2.1 := by decide +kernel
theorem tyX5_ok : ∀ k, k < 11 → parseFieldDescriptor (TX5 k).2.2.1 = some (tyX5 k) := by decide +kernel
abbrev cX5_init : ByteArray := prog_17_method_1_code
def yX5_init : MethodName := ⟨RX5, "<init>", "(LWeatherWages;)V"⟩
def dkwX5_init_1 : List UInt8 := [181, 0, 24, 177]
abbrev dktX5_init_1 : List UInt8 := dkwX5_init_1 ++ []
def dkwX5_init_0 : List UInt8 := [42, 43, 181, 0, 3, 42, 183, 0, 9, 42, 18, 15, 181, 0, 17, 42, 187, 0, 21, 89, 183, 0, 23]
abbrev dktX5_init_0 : List UInt8 := dkwX5_init_0 ++ dktX5_init_1
theorem dksX5_init_0 : cX5_init.data.toList.drop 0 = dktX5_init_0 := by decide +kernel
theorem dksX5_init_1 : cX5_init.data.toList.drop 23 = dktX5_init_1 := dk_seg dksX5_init_0 23 rfl rfl
theorem dX5_init_0 : decode cX5_init 0 = .ok (.aload_n 0, 1) := dk_42 (dk_at dksX5_init_0 0 rfl rfl)
theorem dX5_init_1 : decode cX5_init 1 = .ok (.aload_n 1, 1) := dk_43 (dk_at dksX5_init_0 1 rfl rfl)
theorem dX5_init_2 : decode cX5_init 2 = .ok (.putfield 3, 3) := dk_181 0 3 (dk_at dksX5_init_0 2 rfl rfl)
theorem dX5_init_5 : decode cX5_init 5 = .ok (.aload_n 0, 1) := dk_42 (dk_at dksX5_init_0 5 rfl rfl)
theorem dX5_init_6 : decode cX5_init 6 = .ok (.invokespecial 9, 3) := dk_183 0 9 (dk_at dksX5_init_0 6 rfl rfl)
theorem dX5_init_9 : decode cX5_init 9 = .ok (.aload_n 0, 1) := dk_42 (dk_at dksX5_init_0 9 rfl rfl)
theorem dX5_init_10 : decode cX5_init 10 = .ok (.ldc 15, 2) := dk_18 15 (dk_at dksX5_init_0 10 rfl rfl)
theorem dX5_init_12 : decode cX5_init 12 = .ok (.putfield 17, 3) := dk_181 0 17 (dk_at dksX5_init_0 12 rfl rfl)
theorem dX5_init_15 : decode cX5_init 15 = .ok (.aload_n 0, 1) := dk_42 (dk_at dksX5_init_0 15 rfl rfl)
theorem dX5_init_16 : decode cX5_init 16 = .ok (.new 21, 3) := dk_187 0 21 (dk_at dksX5_init_0 16 rfl rfl)
theorem dX5_init_19 : decode cX5_init 19 = .ok (.dup, 1) := dk_89 (dk_at dksX5_init_0 19 rfl rfl)
theorem dX5_init_20 : decode cX5_init 20 = .ok (.invokespecial 23, 3) := dk_183 0 23 (dk_at dksX5_init_0 20 rfl rfl)
theorem dX5_init_23 : decode cX5_init 23 = .ok (.putfield 24, 3) := dk_181 0 24 (dk_at dksX5_init_1 0 rfl rfl)
theorem dX5_init_26 : decode cX5_init 26 = .ok (.return_, 1) := dk_177 (dk_at dksX5_init_1 3 rfl rfl)
abbrev cX5_text : ByteArray := prog_17_method_17_code
def yX5_text : MethodName := ⟨RX5, "text", "()LWeatherWages$Book;"⟩
def dkwX5_text_1 : List UInt8 := [42, 182, 0, 96, 191, 42, 182, 0, 90, 167, 255, 227, 42, 180, 0, 24, 176]
abbrev dktX5_text_1 : List UInt8 := dkwX5_text_1 ++ []
def dkwX5_text_0 : List UInt8 := [42, 182, 0, 90, 42, 180, 0, 46, 153, 0, 28, 42, 182, 0, 170, 42, 180, 0, 46, 16, 59, 159, 0, 8]
abbrev dktX5_text_0 : List UInt8 := dkwX5_text_0 ++ dktX5_text_1
theorem dksX5_text_0 : cX5_text.data.toList.drop 0 = dktX5_text_0 := by decide +kernel
theorem dksX5_text_1 : cX5_text.data.toList.drop 24 = dktX5_text_1 := dk_seg dksX5_text_0 24 rfl rfl
theorem dX5_text_0 : decode cX5_text 0 = .ok (.aload_n 0, 1) := dk_42 (dk_at dksX5_text_0 0 rfl rfl)
theorem dX5_text_1 : decode cX5_text 1 = .ok (.invokevirtual 90, 3) := dk_182 0 90 (dk_at dksX5_text_0 1 rfl rfl)
theorem dX5_text_4 : decode cX5_text 4 = .ok (.aload_n 0, 1) := dk_42 (dk_at dksX5_text_0 4 rfl rfl)
theorem dX5_text_5 : decode cX5_text 5 = .ok (.getfield 46, 3) := dk_180 0 46 (dk_at dksX5_text_0 5 rfl rfl)
theorem dX5_text_8 : decode cX5_text 8 = .ok (.ifCond .eq 28, 3) := dk_153 0 28 (dk_at dksX5_text_0 8 rfl rfl)
theorem dX5_text_11 : decode cX5_text 11 = .ok (.aload_n 0, 1) := dk_42 (dk_at dksX5_text_0 11 rfl rfl)
theorem dX5_text_12 : decode cX5_text 12 = .ok (.invokevirtual 170, 3) := dk_182 0 170 (dk_at dksX5_text_0 12 rfl rfl)
theorem dX5_text_15 : decode cX5_text 15 = .ok (.aload_n 0, 1) := dk_42 (dk_at dksX5_text_0 15 rfl rfl)
theorem dX5_text_16 : decode cX5_text 16 = .ok (.getfield 46, 3) := dk_180 0 46 (dk_at dksX5_text_0 16 rfl rfl)
theorem dX5_text_19 : decode cX5_text 19 = .ok (.bipush 59, 2) := dk_16 59 (dk_at dksX5_text_0 19 rfl rfl)
theorem dX5_text_21 : decode cX5_text 21 = .ok (.if_icmp .eq 8, 3) := dk_159 0 8 (dk_at dksX5_text_0 21 rfl rfl)
theorem dX5_text_24 : decode cX5_text 24 = .ok (.aload_n 0, 1) := dk_42 (dk_at dksX5_text_1 0 rfl rfl)
theorem dX5_text_25 : decode cX5_text 25 = .ok (.invokevirtual 96, 3) := dk_182 0 96 (dk_at dksX5_text_1 1 rfl rfl)
theorem dX5_text_28 : decode cX5_text 28 = .ok (.athrow, 1) := dk_191 (dk_at dksX5_text_1 4 rfl rfl)
theorem dX5_text_29 : decode cX5_text 29 = .ok (.aload_n 0, 1) := dk_42 (dk_at dksX5_text_1 5 rfl rfl)
theorem dX5_text_30 : decode cX5_text 30 = .ok (.invokevirtual 90, 3) := dk_182 0 90 (dk_at dksX5_text_1 6 rfl rfl)
theorem dX5_text_33 : decode cX5_text 33 = .ok (.goto (-29), 3) := dk_167 255 227 (dk_at dksX5_text_1 9 rfl rfl)
theorem dX5_text_36 : decode cX5_text 36 = .ok (.aload_n 0, 1) := dk_42 (dk_at dksX5_text_1 12 rfl rfl)
theorem dX5_text_37 : decode cX5_text 37 = .ok (.getfield 24, 3) := dk_180 0 24 (dk_at dksX5_text_1 13 rfl rfl)
theorem dX5_text_40 : decode cX5_text 40 = .ok (.areturn, 1) := dk_176 (dk_at dksX5_text_1 16 rfl rfl)
abbrev cX5_go : ByteArray := prog_17_method_6_code
def yX5_go : MethodName := ⟨RX5, "go", "()V"⟩
def dkwX5_go_10 : List UInt8 := [181, 0, 28, 177]
abbrev dktX5_go_10 : List UInt8 := dkwX5_go_10 ++ []
def dkwX5_go_9 : List UInt8 := [167, 0, 17, 27, 184, 0, 72, 153, 0, 10, 42, 27, 181, 0, 46, 4, 61, 42, 89, 180, 0, 28, 28, 96]
abbrev dktX5_go_9 : List UInt8 := dkwX5_go_9 ++ dktX5_go_10
def dkwX5_go_8 : List UInt8 := [167, 255, 220, 28, 7, 163, 0, 11, 42, 28, 182, 0, 49, 153, 0, 4, 177, 42, 5, 181, 0, 46]
abbrev dktX5_go_8 : List UInt8 := dkwX5_go_8 ++ dktX5_go_9
def dkwX5_go_7 : List UInt8 := [42, 16, 10, 42, 180, 0, 69, 104, 42, 28, 182, 0, 39, 96, 16, 48, 100, 181, 0, 69, 132, 2, 1]
abbrev dktX5_go_7 : List UInt8 := dkwX5_go_7 ++ dktX5_go_8
def dkwX5_go_6 : List UInt8 := [182, 0, 66, 153, 0, 69, 42, 3, 181, 0, 69, 42, 28, 182, 0, 66, 153, 0, 34, 28, 7, 162, 0, 23]
abbrev dktX5_go_6 : List UInt8 := dkwX5_go_6 ++ dktX5_go_7
def dkwX5_go_5 : List UInt8 := [16, 8, 164, 0, 4, 177, 42, 45, 182, 0, 62, 181, 0, 17, 42, 4, 181, 0, 46, 167, 0, 91, 42, 3]
abbrev dktX5_go_5 : List UInt8 := dkwX5_go_5 ++ dktX5_go_6
def dkwX5_go_4 : List UInt8 := [28, 16, 8, 162, 0, 14, 45, 42, 28, 182, 0, 39, 146, 182, 0, 58, 87, 132, 2, 1, 167, 255, 228, 28]
abbrev dktX5_go_4 : List UInt8 := dkwX5_go_4 ++ dktX5_go_5
def dkwX5_go_3 : List UInt8 := [182, 0, 49, 153, 0, 67, 187, 0, 53, 89, 16, 8, 183, 0, 55, 78, 42, 28, 182, 0, 49, 153, 0, 26]
abbrev dktX5_go_3 : List UInt8 := dkwX5_go_3 ++ dktX5_go_4
def dkwX5_go_2 : List UInt8 := [60, 3, 61, 42, 6, 181, 0, 46, 27, 156, 0, 11, 42, 3, 181, 0, 46, 167, 0, 163, 42, 3]
abbrev dktX5_go_2 : List UInt8 := dkwX5_go_2 ++ dktX5_go_3
def dkwX5_go_1 : List UInt8 := [180, 0, 28, 4, 96, 181, 0, 28, 167, 255, 226, 42, 42, 180, 0, 28, 181, 0, 43, 42, 3, 182, 0, 39]
abbrev dktX5_go_1 : List UInt8 := dkwX5_go_1 ++ dktX5_go_2
def dkwX5_go_0 : List UInt8 := [42, 3, 182, 0, 39, 16, 32, 159, 0, 13, 42, 3, 182, 0, 39, 16, 10, 160, 0, 16, 42, 89]
abbrev dktX5_go_0 : List UInt8 := dkwX5_go_0 ++ dktX5_go_1
theorem dksX5_go_0 : cX5_go.data.toList.drop 0 = dktX5_go_0 := by decide +kernel
theorem dksX5_go_1 : cX5_go.data.toList.drop 22 = dktX5_go_1 := dk_seg dksX5_go_0 22 rfl rfl
theorem dksX5_go_2 : cX5_go.data.toList.drop 46 = dktX5_go_2 := dk_seg dksX5_go_1 24 rfl rfl
theorem dksX5_go_3 : cX5_go.data.toList.drop 68 = dktX5_go_3 := dk_seg dksX5_go_2 22 rfl rfl
theorem dksX5_go_4 : cX5_go.data.toList.drop 92 = dktX5_go_4 := dk_seg dksX5_go_3 24 rfl rfl
theorem dksX5_go_5 : cX5_go.data.toList.drop 116 = dktX5_go_5 := dk_seg dksX5_go_4 24 rfl rfl
theorem dksX5_go_6 : cX5_go.data.toList.drop 140 = dktX5_go_6 := dk_seg dksX5_go_5 24 rfl rfl
theorem dksX5_go_7 : cX5_go.data.toList.drop 164 = dktX5_go_7 := dk_seg dksX5_go_6 24 rfl rfl
theorem dksX5_go_8 : cX5_go.data.toList.drop 187 = dktX5_go_8 := dk_seg dksX5_go_7 23 rfl rfl
theorem dksX5_go_9 : cX5_go.data.toList.drop 209 = dktX5_go_9 := dk_seg dksX5_go_8 22 rfl rfl
theorem dksX5_go_10 : cX5_go.data.toList.drop 233 = dktX5_go_10 := dk_seg dksX5_go_9 24 rfl rfl
theorem dX5_go_0 : decode cX5_go 0 = .ok (.aload_n 0, 1) := dk_42 (dk_at dksX5_go_0 0 rfl rfl)
theorem dX5_go_1 : decode cX5_go 1 = .ok (.iconst 0, 1) := dk_3 (dk_at dksX5_go_0 1 rfl rfl)
theorem dX5_go_2 : decode cX5_go 2 = .ok (.invokevirtual 39, 3) := dk_182 0 39 (dk_at dksX5_go_0 2 rfl rfl)
theorem dX5_go_5 : decode cX5_go 5 = .ok (.bipush 32, 2) := dk_16 32 (dk_at dksX5_go_0 5 rfl rfl)
theorem dX5_go_7 : decode cX5_go 7 = .ok (.if_icmp .eq 13, 3) := dk_159 0 13 (dk_at dksX5_go_0 7 rfl rfl)
theorem dX5_go_10 : decode cX5_go 10 = .ok (.aload_n 0, 1) := dk_42 (dk_at dksX5_go_0 10 rfl rfl)
theorem dX5_go_11 : decode cX5_go 11 = .ok (.iconst 0, 1) := dk_3 (dk_at dksX5_go_0 11 rfl rfl)
theorem dX5_go_12 : decode cX5_go 12 = .ok (.invokevirtual 39, 3) := dk_182 0 39 (dk_at dksX5_go_0 12 rfl rfl)
theorem dX5_go_15 : decode cX5_go 15 = .ok (.bipush 10, 2) := dk_16 10 (dk_at dksX5_go_0 15 rfl rfl)
theorem dX5_go_17 : decode cX5_go 17 = .ok (.if_icmp .ne 16, 3) := dk_160 0 16 (dk_at dksX5_go_0 17 rfl rfl)
theorem dX5_go_20 : decode cX5_go 20 = .ok (.aload_n 0, 1) := dk_42 (dk_at dksX5_go_0 20 rfl rfl)
theorem dX5_go_21 : decode cX5_go 21 = .ok (.dup, 1) := dk_89 (dk_at dksX5_go_0 21 rfl rfl)
theorem dX5_go_22 : decode cX5_go 22 = .ok (.getfield 28, 3) := dk_180 0 28 (dk_at dksX5_go_1 0 rfl rfl)
theorem dX5_go_25 : decode cX5_go 25 = .ok (.iconst 1, 1) := dk_4 (dk_at dksX5_go_1 3 rfl rfl)
theorem dX5_go_26 : decode cX5_go 26 = .ok (.iadd, 1) := dk_96 (dk_at dksX5_go_1 4 rfl rfl)
theorem dX5_go_27 : decode cX5_go 27 = .ok (.putfield 28, 3) := dk_181 0 28 (dk_at dksX5_go_1 5 rfl rfl)
theorem dX5_go_30 : decode cX5_go 30 = .ok (.goto (-30), 3) := dk_167 255 226 (dk_at dksX5_go_1 8 rfl rfl)
theorem dX5_go_33 : decode cX5_go 33 = .ok (.aload_n 0, 1) := dk_42 (dk_at dksX5_go_1 11 rfl rfl)
theorem dX5_go_34 : decode cX5_go 34 = .ok (.aload_n 0, 1) := dk_42 (dk_at dksX5_go_1 12 rfl rfl)
theorem dX5_go_35 : decode cX5_go 35 = .ok (.getfield 28, 3) := dk_180 0 28 (dk_at dksX5_go_1 13 rfl rfl)
theorem dX5_go_38 : decode cX5_go 38 = .ok (.putfield 43, 3) := dk_181 0 43 (dk_at dksX5_go_1 16 rfl rfl)
theorem dX5_go_41 : decode cX5_go 41 = .ok (.aload_n 0, 1) := dk_42 (dk_at dksX5_go_1 19 rfl rfl)
theorem dX5_go_42 : decode cX5_go 42 = .ok (.iconst 0, 1) := dk_3 (dk_at dksX5_go_1 20 rfl rfl)
theorem dX5_go_43 : decode cX5_go 43 = .ok (.invokevirtual 39, 3) := dk_182 0 39 (dk_at dksX5_go_1 21 rfl rfl)
theorem dX5_go_46 : decode cX5_go 46 = .ok (.istore_n 1, 1) := dk_60 (dk_at dksX5_go_2 0 rfl rfl)
theorem dX5_go_47 : decode cX5_go 47 = .ok (.iconst 0, 1) := dk_3 (dk_at dksX5_go_2 1 rfl rfl)
theorem dX5_go_48 : decode cX5_go 48 = .ok (.istore_n 2, 1) := dk_61 (dk_at dksX5_go_2 2 rfl rfl)
theorem dX5_go_49 : decode cX5_go 49 = .ok (.aload_n 0, 1) := dk_42 (dk_at dksX5_go_2 3 rfl rfl)
theorem dX5_go_50 : decode cX5_go 50 = .ok (.iconst 3, 1) := dk_6 (dk_at dksX5_go_2 4 rfl rfl)
theorem dX5_go_51 : decode cX5_go 51 = .ok (.putfield 46, 3) := dk_181 0 46 (dk_at dksX5_go_2 5 rfl rfl)
theorem dX5_go_54 : decode cX5_go 54 = .ok (.iload_n 1, 1) := dk_27 (dk_at dksX5_go_2 8 rfl rfl)
theorem dX5_go_55 : decode cX5_go 55 = .ok (.ifCond .ge 11, 3) := dk_156 0 11 (dk_at dksX5_go_2 9 rfl rfl)
theorem dX5_go_58 : decode cX5_go 58 = .ok (.aload_n 0, 1) := dk_42 (dk_at dksX5_go_2 12 rfl rfl)
theorem dX5_go_59 : decode cX5_go 59 = .ok (.iconst 0, 1) := dk_3 (dk_at dksX5_go_2 13 rfl rfl)
theorem dX5_go_60 : decode cX5_go 60 = .ok (.putfield 46, 3) := dk_181 0 46 (dk_at dksX5_go_2 14 rfl rfl)
theorem dX5_go_63 : decode cX5_go 63 = .ok (.goto 163, 3) := dk_167 0 163 (dk_at dksX5_go_2 17 rfl rfl)
theorem dX5_go_66 : decode cX5_go 66 = .ok (.aload_n 0, 1) := dk_42 (dk_at dksX5_go_2 20 rfl rfl)
theorem dX5_go_67 : decode cX5_go 67 = .ok (.iconst 0, 1) := dk_3 (dk_at dksX5_go_2 21 rfl rfl)
theorem dX5_go_68 : decode cX5_go 68 = .ok (.invokevirtual 49, 3) := dk_182 0 49 (dk_at dksX5_go_3 0 rfl rfl)
theorem dX5_go_71 : decode cX5_go 71 = .ok (.ifCond .eq 67, 3) := dk_153 0 67 (dk_at dksX5_go_3 3 rfl rfl)
theorem dX5_go_74 : decode cX5_go 74 = .ok (.new 53, 3) := dk_187 0 53 (dk_at dksX5_go_3 6 rfl rfl)
theorem dX5_go_77 : decode cX5_go 77 = .ok (.dup, 1) := dk_89 (dk_at dksX5_go_3 9 rfl rfl)
theorem dX5_go_78 : decode cX5_go 78 = .ok (.bipush 8, 2) := dk_16 8 (dk_at dksX5_go_3 10 rfl rfl)
theorem dX5_go_80 : decode cX5_go 80 = .ok (.invokespecial 55, 3) := dk_183 0 55 (dk_at dksX5_go_3 12 rfl rfl)
theorem dX5_go_83 : decode cX5_go 83 = .ok (.astore_n 3, 1) := dk_78 (dk_at dksX5_go_3 15 rfl rfl)
theorem dX5_go_84 : decode cX5_go 84 = .ok (.aload_n 0, 1) := dk_42 (dk_at dksX5_go_3 16 rfl rfl)
theorem dX5_go_85 : decode cX5_go 85 = .ok (.iload_n 2, 1) := dk_28 (dk_at dksX5_go_3 17 rfl rfl)
theorem dX5_go_86 : decode cX5_go 86 = .ok (.invokevirtual 49, 3) := dk_182 0 49 (dk_at dksX5_go_3 18 rfl rfl)
theorem dX5_go_89 : decode cX5_go 89 = .ok (.ifCond .eq 26, 3) := dk_153 0 26 (dk_at dksX5_go_3 21 rfl rfl)
theorem dX5_go_92 : decode cX5_go 92 = .ok (.iload_n 2, 1) := dk_28 (dk_at dksX5_go_4 0 rfl rfl)
theorem dX5_go_93 : decode cX5_go 93 = .ok (.bipush 8, 2) := dk_16 8 (dk_at dksX5_go_4 1 rfl rfl)
theorem dX5_go_95 : decode cX5_go 95 = .ok (.if_icmp .ge 14, 3) := dk_162 0 14 (dk_at dksX5_go_4 3 rfl rfl)
theorem dX5_go_98 : decode cX5_go 98 = .ok (.aload_n 3, 1) := dk_45 (dk_at dksX5_go_4 6 rfl rfl)
theorem dX5_go_99 : decode cX5_go 99 = .ok (.aload_n 0, 1) := dk_42 (dk_at dksX5_go_4 7 rfl rfl)
theorem dX5_go_100 : decode cX5_go 100 = .ok (.iload_n 2, 1) := dk_28 (dk_at dksX5_go_4 8 rfl rfl)
theorem dX5_go_101 : decode cX5_go 101 = .ok (.invokevirtual 39, 3) := dk_182 0 39 (dk_at dksX5_go_4 9 rfl rfl)
theorem dX5_go_104 : decode cX5_go 104 = .ok (.i2c, 1) := dk_146 (dk_at dksX5_go_4 12 rfl rfl)
theorem dX5_go_105 : decode cX5_go 105 = .ok (.invokevirtual 58, 3) := dk_182 0 58 (dk_at dksX5_go_4 13 rfl rfl)
theorem dX5_go_108 : decode cX5_go 108 = .ok (.pop, 1) := dk_87 (dk_at dksX5_go_4 16 rfl rfl)
theorem dX5_go_109 : decode cX5_go 109 = .ok (.iinc 2 1, 3) := dk_132 2 1 (dk_at dksX5_go_4 17 rfl rfl)
theorem dX5_go_112 : decode cX5_go 112 = .ok (.goto (-28), 3) := dk_167 255 228 (dk_at dksX5_go_4 20 rfl rfl)
theorem dX5_go_115 : decode cX5_go 115 = .ok (.iload_n 2, 1) := dk_28 (dk_at dksX5_go_4 23 rfl rfl)
theorem dX5_go_116 : decode cX5_go 116 = .ok (.bipush 8, 2) := dk_16 8 (dk_at dksX5_go_5 0 rfl rfl)
theorem dX5_go_118 : decode cX5_go 118 = .ok (.if_icmp .le 4, 3) := dk_164 0 4 (dk_at dksX5_go_5 2 rfl rfl)
theorem dX5_go_121 : decode cX5_go 121 = .ok (.return_, 1) := dk_177 (dk_at dksX5_go_5 5 rfl rfl)
theorem dX5_go_122 : decode cX5_go 122 = .ok (.aload_n 0, 1) := dk_42 (dk_at dksX5_go_5 6 rfl rfl)
theorem dX5_go_123 : decode cX5_go 123 = .ok (.aload_n 3, 1) := dk_45 (dk_at dksX5_go_5 7 rfl rfl)
theorem dX5_go_124 : decode cX5_go 124 = .ok (.invokevirtual 62, 3) := dk_182 0 62 (dk_at dksX5_go_5 8 rfl rfl)
theorem dX5_go_127 : decode cX5_go 127 = .ok (.putfield 17, 3) := dk_181 0 17 (dk_at dksX5_go_5 11 rfl rfl)
theorem dX5_go_130 : decode cX5_go 130 = .ok (.aload_n 0, 1) := dk_42 (dk_at dksX5_go_5 14 rfl rfl)
theorem dX5_go_131 : decode cX5_go 131 = .ok (.iconst 1, 1) := dk_4 (dk_at dksX5_go_5 15 rfl rfl)
theorem dX5_go_132 : decode cX5_go 132 = .ok (.putfield 46, 3) := dk_181 0 46 (dk_at dksX5_go_5 16 rfl rfl)
theorem dX5_go_135 : decode cX5_go 135 = .ok (.goto 91, 3) := dk_167 0 91 (dk_at dksX5_go_5 19 rfl rfl)
theorem dX5_go_138 : decode cX5_go 138 = .ok (.aload_n 0, 1) := dk_42 (dk_at dksX5_go_5 22 rfl rfl)
theorem dX5_go_139 : decode cX5_go 139 = .ok (.iconst 0, 1) := dk_3 (dk_at dksX5_go_5 23 rfl rfl)
theorem dX5_go_140 : decode cX5_go 140 = .ok (.invokevirtual 66, 3) := dk_182 0 66 (dk_at dksX5_go_6 0 rfl rfl)
theorem dX5_go_143 : decode cX5_go 143 = .ok (.ifCond .eq 69, 3) := dk_153 0 69 (dk_at dksX5_go_6 3 rfl rfl)
theorem dX5_go_146 : decode cX5_go 146 = .ok (.aload_n 0, 1) := dk_42 (dk_at dksX5_go_6 6 rfl rfl)
theorem dX5_go_147 : decode cX5_go 147 = .ok (.iconst 0, 1) := dk_3 (dk_at dksX5_go_6 7 rfl rfl)
theorem dX5_go_148 : decode cX5_go 148 = .ok (.putfield 69, 3) := dk_181 0 69 (dk_at dksX5_go_6 8 rfl rfl)
theorem dX5_go_151 : decode cX5_go 151 = .ok (.aload_n 0, 1) := dk_42 (dk_at dksX5_go_6 11 rfl rfl)
theorem dX5_go_152 : decode cX5_go 152 = .ok (.iload_n 2, 1) := dk_28 (dk_at dksX5_go_6 12 rfl rfl)
theorem dX5_go_153 : decode cX5_go 153 = .ok (.invokevirtual 66, 3) := dk_182 0 66 (dk_at dksX5_go_6 13 rfl rfl)
theorem dX5_go_156 : decode cX5_go 156 = .ok (.ifCond .eq 34, 3) := dk_153 0 34 (dk_at dksX5_go_6 16 rfl rfl)
theorem dX5_go_159 : decode cX5_go 159 = .ok (.iload_n 2, 1) := dk_28 (dk_at dksX5_go_6 19 rfl rfl)
theorem dX5_go_160 : decode cX5_go 160 = .ok (.iconst 4, 1) := dk_7 (dk_at dksX5_go_6 20 rfl rfl)
theorem dX5_go_161 : decode cX5_go 161 = .ok (.if_icmp .ge 23, 3) := dk_162 0 23 (dk_at dksX5_go_6 21 rfl rfl)
theorem dX5_go_164 : decode cX5_go 164 = .ok (.aload_n 0, 1) := dk_42 (dk_at dksX5_go_7 0 rfl rfl)
theorem dX5_go_165 : decode cX5_go 165 = .ok (.bipush 10, 2) := dk_16 10 (dk_at dksX5_go_7 1 rfl rfl)
theorem dX5_go_167 : decode cX5_go 167 = .ok (.aload_n 0, 1) := dk_42 (dk_at dksX5_go_7 3 rfl rfl)
theorem dX5_go_168 : decode cX5_go 168 = .ok (.getfield 69, 3) := dk_180 0 69 (dk_at dksX5_go_7 4 rfl rfl)
theorem dX5_go_171 : decode cX5_go 171 = .ok (.imul, 1) := dk_104 (dk_at dksX5_go_7 7 rfl rfl)
theorem dX5_go_172 : decode cX5_go 172 = .ok (.aload_n 0, 1) := dk_42 (dk_at dksX5_go_7 8 rfl rfl)
theorem dX5_go_173 : decode cX5_go 173 = .ok (.iload_n 2, 1) := dk_28 (dk_at dksX5_go_7 9 rfl rfl)
theorem dX5_go_174 : decode cX5_go 174 = .ok (.invokevirtual 39, 3) := dk_182 0 39 (dk_at dksX5_go_7 10 rfl rfl)
theorem dX5_go_177 : decode cX5_go 177 = .ok (.iadd, 1) := dk_96 (dk_at dksX5_go_7 13 rfl rfl)
theorem dX5_go_178 : decode cX5_go 178 = .ok (.bipush 48, 2) := dk_16 48 (dk_at dksX5_go_7 14 rfl rfl)
theorem dX5_go_180 : decode cX5_go 180 = .ok (.isub, 1) := dk_100 (dk_at dksX5_go_7 16 rfl rfl)
theorem dX5_go_181 : decode cX5_go 181 = .ok (.putfield 69, 3) := dk_181 0 69 (dk_at dksX5_go_7 17 rfl rfl)
theorem dX5_go_184 : decode cX5_go 184 = .ok (.iinc 2 1, 3) := dk_132 2 1 (dk_at dksX5_go_7 20 rfl rfl)
theorem dX5_go_187 : decode cX5_go 187 = .ok (.goto (-36), 3) := dk_167 255 220 (dk_at dksX5_go_8 0 rfl rfl)
theorem dX5_go_190 : decode cX5_go 190 = .ok (.iload_n 2, 1) := dk_28 (dk_at dksX5_go_8 3 rfl rfl)
theorem dX5_go_191 : decode cX5_go 191 = .ok (.iconst 4, 1) := dk_7 (dk_at dksX5_go_8 4 rfl rfl)
theorem dX5_go_192 : decode cX5_go 192 = .ok (.if_icmp .gt 11, 3) := dk_163 0 11 (dk_at dksX5_go_8 5 rfl rfl)
theorem dX5_go_195 : decode cX5_go 195 = .ok (.aload_n 0, 1) := dk_42 (dk_at dksX5_go_8 8 rfl rfl)
theorem dX5_go_196 : decode cX5_go 196 = .ok (.iload_n 2, 1) := dk_28 (dk_at dksX5_go_8 9 rfl rfl)
theorem dX5_go_197 : decode cX5_go 197 = .ok (.invokevirtual 49, 3) := dk_182 0 49 (dk_at dksX5_go_8 10 rfl rfl)
theorem dX5_go_200 : decode cX5_go 200 = .ok (.ifCond .eq 4, 3) := dk_153 0 4 (dk_at dksX5_go_8 13 rfl rfl)
theorem dX5_go_203 : decode cX5_go 203 = .ok (.return_, 1) := dk_177 (dk_at dksX5_go_8 16 rfl rfl)
theorem dX5_go_204 : decode cX5_go 204 = .ok (.aload_n 0, 1) := dk_42 (dk_at dksX5_go_8 17 rfl rfl)
theorem dX5_go_205 : decode cX5_go 205 = .ok (.iconst 2, 1) := dk_5 (dk_at dksX5_go_8 18 rfl rfl)
theorem dX5_go_206 : decode cX5_go 206 = .ok (.putfield 46, 3) := dk_181 0 46 (dk_at dksX5_go_8 19 rfl rfl)
theorem dX5_go_209 : decode cX5_go 209 = .ok (.goto 17, 3) := dk_167 0 17 (dk_at dksX5_go_9 0 rfl rfl)
theorem dX5_go_212 : decode cX5_go 212 = .ok (.iload_n 1, 1) := dk_27 (dk_at dksX5_go_9 3 rfl rfl)
theorem dX5_go_213 : decode cX5_go 213 = .ok (.invokestatic 72, 3) := dk_184 0 72 (dk_at dksX5_go_9 4 rfl rfl)
theorem dX5_go_216 : decode cX5_go 216 = .ok (.ifCond .eq 10, 3) := dk_153 0 10 (dk_at dksX5_go_9 7 rfl rfl)
theorem dX5_go_219 : decode cX5_go 219 = .ok (.aload_n 0, 1) := dk_42 (dk_at dksX5_go_9 10 rfl rfl)
theorem dX5_go_220 : decode cX5_go 220 = .ok (.iload_n 1, 1) := dk_27 (dk_at dksX5_go_9 11 rfl rfl)
theorem dX5_go_221 : decode cX5_go 221 = .ok (.putfield 46, 3) := dk_181 0 46 (dk_at dksX5_go_9 12 rfl rfl)
theorem dX5_go_224 : decode cX5_go 224 = .ok (.iconst 1, 1) := dk_4 (dk_at dksX5_go_9 15 rfl rfl)
theorem dX5_go_225 : decode cX5_go 225 = .ok (.istore_n 2, 1) := dk_61 (dk_at dksX5_go_9 16 rfl rfl)
theorem dX5_go_226 : decode cX5_go 226 = .ok (.aload_n 0, 1) := dk_42 (dk_at dksX5_go_9 17 rfl rfl)
theorem dX5_go_227 : decode cX5_go 227 = .ok (.dup, 1) := dk_89 (dk_at dksX5_go_9 18 rfl rfl)
theorem dX5_go_228 : decode cX5_go 228 = .ok (.getfield 28, 3) := dk_180 0 28 (dk_at dksX5_go_9 19 rfl rfl)
theorem dX5_go_231 : decode cX5_go 231 = .ok (.iload_n 2, 1) := dk_28 (dk_at dksX5_go_9 22 rfl rfl)
theorem dX5_go_232 : decode cX5_go 232 = .ok (.iadd, 1) := dk_96 (dk_at dksX5_go_9 23 rfl rfl)
theorem dX5_go_233 : decode cX5_go 233 = .ok (.putfield 28, 3) := dk_181 0 28 (dk_at dksX5_go_10 0 rfl rfl)
theorem dX5_go_236 : decode cX5_go 236 = .ok (.return_, 1) := dk_177 (dk_at dksX5_go_10 3 rfl rfl)
abbrev cX5_here : ByteArray := prog_17_method_2_code
def yX5_here : MethodName := ⟨RX5, "here", "(I)I"⟩
def dkwX5_here_1 : List UInt8 := [180, 0, 28, 27, 96, 51, 17, 0, 255, 126, 167, 0, 4, 2, 172]
abbrev dktX5_here_1 : List UInt8 := dkwX5_here_1 ++ []
def dkwX5_here_0 : List UInt8 := [42, 180, 0, 28, 27, 96, 42, 180, 0, 3, 180, 0, 32, 162, 0, 24, 42, 180, 0, 3, 180, 0, 35, 42]
abbrev dktX5_here_0 : List UInt8 := dkwX5_here_0 ++ dktX5_here_1
theorem dksX5_here_0 : cX5_here.data.toList.drop 0 = dktX5_here_0 := by decide +kernel
theorem dksX5_here_1 : cX5_here.data.toList.drop 24 = dktX5_here_1 := dk_seg dksX5_here_0 24 rfl rfl
theorem dX5_here_0 : decode cX5_here 0 = .ok (.aload_n 0, 1) := dk_42 (dk_at dksX5_here_0 0 rfl rfl)
theorem dX5_here_1 : decode cX5_here 1 = .ok (.getfield 28, 3) := dk_180 0 28 (dk_at dksX5_here_0 1 rfl rfl)
theorem dX5_here_4 : decode cX5_here 4 = .ok (.iload_n 1, 1) := dk_27 (dk_at dksX5_here_0 4 rfl rfl)
theorem dX5_here_5 : decode cX5_here 5 = .ok (.iadd, 1) := dk_96 (dk_at dksX5_here_0 5 rfl rfl)
theorem dX5_here_6 : decode cX5_here 6 = .ok (.aload_n 0, 1) := dk_42 (dk_at dksX5_here_0 6 rfl rfl)
theorem dX5_here_7 : decode cX5_here 7 = .ok (.getfield 3, 3) := dk_180 0 3 (dk_at dksX5_here_0 7 rfl rfl)
theorem dX5_here_10 : decode cX5_here 10 = .ok (.getfield 32, 3) := dk_180 0 32 (dk_at dksX5_here_0 10 rfl rfl)
theorem dX5_here_13 : decode cX5_here 13 = .ok (.if_icmp .ge 24, 3) := dk_162 0 24 (dk_at dksX5_here_0 13 rfl rfl)
theorem dX5_here_16 : decode cX5_here 16 = .ok (.aload_n 0, 1) := dk_42 (dk_at dksX5_here_0 16 rfl rfl)
theorem dX5_here_17 : decode cX5_here 17 = .ok (.getfield 3, 3) := dk_180 0 3 (dk_at dksX5_here_0 17 rfl rfl)
theorem dX5_here_20 : decode cX5_here 20 = .ok (.getfield 35, 3) := dk_180 0 35 (dk_at dksX5_here_0 20 rfl rfl)
theorem dX5_here_23 : decode cX5_here 23 = .ok (.aload_n 0, 1) := dk_42 (dk_at dksX5_here_0 23 rfl rfl)
theorem dX5_here_24 : decode cX5_here 24 = .ok (.getfield 28, 3) := dk_180 0 28 (dk_at dksX5_here_1 0 rfl rfl)
theorem dX5_here_27 : decode cX5_here 27 = .ok (.iload_n 1, 1) := dk_27 (dk_at dksX5_here_1 3 rfl rfl)
theorem dX5_here_28 : decode cX5_here 28 = .ok (.iadd, 1) := dk_96 (dk_at dksX5_here_1 4 rfl rfl)
theorem dX5_here_29 : decode cX5_here 29 = .ok (.baload, 1) := dk_51 (dk_at dksX5_here_1 5 rfl rfl)
theorem dX5_here_30 : decode cX5_here 30 = .ok (.sipush 255, 3) := dk_17 0 255 (dk_at dksX5_here_1 6 rfl rfl)
theorem dX5_here_33 : decode cX5_here 33 = .ok (.iand, 1) := dk_126 (dk_at dksX5_here_1 9 rfl rfl)
theorem dX5_here_34 : decode cX5_here 34 = .ok (.goto 4, 3) := dk_167 0 4 (dk_at dksX5_here_1 10 rfl rfl)
theorem dX5_here_37 : decode cX5_here 37 = .ok (.iconst (-1), 1) := dk_2 (dk_at dksX5_here_1 13 rfl rfl)
theorem dX5_here_38 : decode cX5_here 38 = .ok (.ireturn, 1) := dk_172 (dk_at dksX5_here_1 14 rfl rfl)
abbrev cX5_isLetter : ByteArray := prog_17_method_3_code
def yX5_isLetter : MethodName := ⟨RX5, "isLetter", "(I)Z"⟩
def dkwX5_isLetter_1 : List UInt8 := [3, 172]
abbrev dktX5_isLetter_1 : List UInt8 := dkwX5_isLetter_1 ++ []
def dkwX5_isLetter_0 : List UInt8 := [42, 27, 182, 0, 39, 16, 97, 161, 0, 17, 42, 27, 182, 0, 39, 16, 122, 163, 0, 7, 4, 167, 0, 4]
abbrev dktX5_isLetter_0 : List UInt8 := dkwX5_isLetter_0 ++ dktX5_isLetter_1
theorem dksX5_isLetter_0 : cX5_isLetter.data.toList.drop 0 = dktX5_isLetter_0 := by decide +kernel
theorem dksX5_isLetter_1 : cX5_isLetter.data.toList.drop 24 = dktX5_isLetter_1 := dk_seg dksX5_isLetter_0 24 rfl rfl
theorem dX5_isLetter_0 : decode cX5_isLetter 0 = .ok (.aload_n 0, 1) := dk_42 (dk_at dksX5_isLetter_0 0 rfl rfl)
theorem dX5_isLetter_1 : decode cX5_isLetter 1 = .ok (.iload_n 1, 1) := dk_27 (dk_at dksX5_isLetter_0 1 rfl rfl)
theorem dX5_isLetter_2 : decode cX5_isLetter 2 = .ok (.invokevirtual 39, 3) := dk_182 0 39 (dk_at dksX5_isLetter_0 2 rfl rfl)
theorem dX5_isLetter_5 : decode cX5_isLetter 5 = .ok (.bipush 97, 2) := dk_16 97 (dk_at dksX5_isLetter_0 5 rfl rfl)
theorem dX5_isLetter_7 : decode cX5_isLetter 7 = .ok (.if_icmp .lt 17, 3) := dk_161 0 17 (dk_at dksX5_isLetter_0 7 rfl rfl)
theorem dX5_isLetter_10 : decode cX5_isLetter 10 = .ok (.aload_n 0, 1) := dk_42 (dk_at dksX5_isLetter_0 10 rfl rfl)
theorem dX5_isLetter_11 : decode cX5_isLetter 11 = .ok (.iload_n 1, 1) := dk_27 (dk_at dksX5_isLetter_0 11 rfl rfl)
theorem dX5_isLetter_12 : decode cX5_isLetter 12 = .ok (.invokevirtual 39, 3) := dk_182 0 39 (dk_at dksX5_isLetter_0 12 rfl rfl)
theorem dX5_isLetter_15 : decode cX5_isLetter 15 = .ok (.bipush 122, 2) := dk_16 122 (dk_at dksX5_isLetter_0 15 rfl rfl)
theorem dX5_isLetter_17 : decode cX5_isLetter 17 = .ok (.if_icmp .gt 7, 3) := dk_163 0 7 (dk_at dksX5_isLetter_0 17 rfl rfl)
theorem dX5_isLetter_20 : decode cX5_isLetter 20 = .ok (.iconst 1, 1) := dk_4 (dk_at dksX5_isLetter_0 20 rfl rfl)
theorem dX5_isLetter_21 : decode cX5_isLetter 21 = .ok (.goto 4, 3) := dk_167 0 4 (dk_at dksX5_isLetter_0 21 rfl rfl)
theorem dX5_isLetter_24 : decode cX5_isLetter 24 = .ok (.iconst 0, 1) := dk_3 (dk_at dksX5_isLetter_1 0 rfl rfl)
theorem dX5_isLetter_25 : decode cX5_isLetter 25 = .ok (.ireturn, 1) := dk_172 (dk_at dksX5_isLetter_1 1 rfl rfl)
abbrev cX5_isDigit : ByteArray := prog_17_method_4_code
def yX5_isDigit : MethodName := ⟨RX5, "isDigit", "(I)Z"⟩
def dkwX5_isDigit_1 : List UInt8 := [3, 172]
abbrev dktX5_isDigit_1 : List UInt8 := dkwX5_isDigit_1 ++ []
def dkwX5_isDigit_0 : List UInt8 := [42, 27, 182, 0, 39, 16, 48, 161, 0, 17, 42, 27, 182, 0, 39, 16, 57, 163, 0, 7, 4, 167, 0, 4]
abbrev dktX5_isDigit_0 : List UInt8 := dkwX5_isDigit_0 ++ dktX5_isDigit_1
theorem dksX5_isDigit_0 : cX5_isDigit.data.toList.drop 0 = dktX5_isDigit_0 := by decide +kernel
theorem dksX5_isDigit_1 : cX5_isDigit.data.toList.drop 24 = dktX5_isDigit_1 := dk_seg dksX5_isDigit_0 24 rfl rfl
theorem dX5_isDigit_0 : decode cX5_isDigit 0 = .ok (.aload_n 0, 1) := dk_42 (dk_at dksX5_isDigit_0 0 rfl rfl)
theorem dX5_isDigit_1 : decode cX5_isDigit 1 = .ok (.iload_n 1, 1) := dk_27 (dk_at dksX5_isDigit_0 1 rfl rfl)
theorem dX5_isDigit_2 : decode cX5_isDigit 2 = .ok (.invokevirtual 39, 3) := dk_182 0 39 (dk_at dksX5_isDigit_0 2 rfl rfl)
theorem dX5_isDigit_5 : decode cX5_isDigit 5 = .ok (.bipush 48, 2) := dk_16 48 (dk_at dksX5_isDigit_0 5 rfl rfl)
theorem dX5_isDigit_7 : decode cX5_isDigit 7 = .ok (.if_icmp .lt 17, 3) := dk_161 0 17 (dk_at dksX5_isDigit_0 7 rfl rfl)
theorem dX5_isDigit_10 : decode cX5_isDigit 10 = .ok (.aload_n 0, 1) := dk_42 (dk_at dksX5_isDigit_0 10 rfl rfl)
theorem dX5_isDigit_11 : decode cX5_isDigit 11 = .ok (.iload_n 1, 1) := dk_27 (dk_at dksX5_isDigit_0 11 rfl rfl)
theorem dX5_isDigit_12 : decode cX5_isDigit 12 = .ok (.invokevirtual 39, 3) := dk_182 0 39 (dk_at dksX5_isDigit_0 12 rfl rfl)
theorem dX5_isDigit_15 : decode cX5_isDigit 15 = .ok (.bipush 57, 2) := dk_16 57 (dk_at dksX5_isDigit_0 15 rfl rfl)
theorem dX5_isDigit_17 : decode cX5_isDigit 17 = .ok (.if_icmp .gt 7, 3) := dk_163 0 7 (dk_at dksX5_isDigit_0 17 rfl rfl)
theorem dX5_isDigit_20 : decode cX5_isDigit 20 = .ok (.iconst 1, 1) := dk_4 (dk_at dksX5_isDigit_0 20 rfl rfl)
theorem dX5_isDigit_21 : decode cX5_isDigit 21 = .ok (.goto 4, 3) := dk_167 0 4 (dk_at dksX5_isDigit_0 21 rfl rfl)
theorem dX5_isDigit_24 : decode cX5_isDigit 24 = .ok (.iconst 0, 1) := dk_3 (dk_at dksX5_isDigit_1 0 rfl rfl)
theorem dX5_isDigit_25 : decode cX5_isDigit 25 = .ok (.ireturn, 1) := dk_172 (dk_at dksX5_isDigit_1 1 rfl rfl)
abbrev cX5_isSign : ByteArray := prog_17_method_5_code
def yX5_isSign : MethodName := ⟨RX5, "isSign", "(I)Z"⟩
def dkwX5_isSign_2 : List UInt8 := [26, 16, 42, 159, 0, 15, 26, 16, 47, 159, 0, 9, 26, 16, 37, 160, 0, 7, 4, 167, 0, 4, 3, 172]
abbrev dktX5_isSign_2 : List UInt8 := dkwX5_isSign_2 ++ []
def dkwX5_isSign_1 : List UInt8 := [26, 16, 62, 159, 0, 39, 26, 16, 61, 159, 0, 33, 26, 16, 43, 159, 0, 27, 26, 16, 45, 159, 0, 21]
abbrev dktX5_isSign_1 : List UInt8 := dkwX5_isSign_1 ++ dktX5_isSign_2
def dkwX5_isSign_0 : List UInt8 := [26, 16, 59, 159, 0, 63, 26, 16, 40, 159, 0, 57, 26, 16, 41, 159, 0, 51, 26, 16, 60, 159, 0, 45]
abbrev dktX5_isSign_0 : List UInt8 := dkwX5_isSign_0 ++ dktX5_isSign_1
theorem dksX5_isSign_0 : cX5_isSign.data.toList.drop 0 = dktX5_isSign_0 := by decide +kernel
theorem dksX5_isSign_1 : cX5_isSign.data.toList.drop 24 = dktX5_isSign_1 := dk_seg dksX5_isSign_0 24 rfl rfl
theorem dksX5_isSign_2 : cX5_isSign.data.toList.drop 48 = dktX5_isSign_2 := dk_seg dksX5_isSign_1 24 rfl rfl
theorem dX5_isSign_0 : decode cX5_isSign 0 = .ok (.iload_n 0, 1) := dk_26 (dk_at dksX5_isSign_0 0 rfl rfl)
theorem dX5_isSign_1 : decode cX5_isSign 1 = .ok (.bipush 59, 2) := dk_16 59 (dk_at dksX5_isSign_0 1 rfl rfl)
theorem dX5_isSign_3 : decode cX5_isSign 3 = .ok (.if_icmp .eq 63, 3) := dk_159 0 63 (dk_at dksX5_isSign_0 3 rfl rfl)
theorem dX5_isSign_6 : decode cX5_isSign 6 = .ok (.iload_n 0, 1) := dk_26 (dk_at dksX5_isSign_0 6 rfl rfl)
theorem dX5_isSign_7 : decode cX5_isSign 7 = .ok (.bipush 40, 2) := dk_16 40 (dk_at dksX5_isSign_0 7 rfl rfl)
theorem dX5_isSign_9 : decode cX5_isSign 9 = .ok (.if_icmp .eq 57, 3) := dk_159 0 57 (dk_at dksX5_isSign_0 9 rfl rfl)
theorem dX5_isSign_12 : decode cX5_isSign 12 = .ok (.iload_n 0, 1) := dk_26 (dk_at dksX5_isSign_0 12 rfl rfl)
theorem dX5_isSign_13 : decode cX5_isSign 13 = .ok (.bipush 41, 2) := dk_16 41 (dk_at dksX5_isSign_0 13 rfl rfl)
theorem dX5_isSign_15 : decode cX5_isSign 15 = .ok (.if_icmp .eq 51, 3) := dk_159 0 51 (dk_at dksX5_isSign_0 15 rfl rfl)
theorem dX5_isSign_18 : decode cX5_isSign 18 = .ok (.iload_n 0, 1) := dk_26 (dk_at dksX5_isSign_0 18 rfl rfl)
theorem dX5_isSign_19 : decode cX5_isSign 19 = .ok (.bipush 60, 2) := dk_16 60 (dk_at dksX5_isSign_0 19 rfl rfl)
theorem dX5_isSign_21 : decode cX5_isSign 21 = .ok (.if_icmp .eq 45, 3) := dk_159 0 45 (dk_at dksX5_isSign_0 21 rfl rfl)
theorem dX5_isSign_24 : decode cX5_isSign 24 = .ok (.iload_n 0, 1) := dk_26 (dk_at dksX5_isSign_1 0 rfl rfl)
theorem dX5_isSign_25 : decode cX5_isSign 25 = .ok (.bipush 62, 2) := dk_16 62 (dk_at dksX5_isSign_1 1 rfl rfl)
theorem dX5_isSign_27 : decode cX5_isSign 27 = .ok (.if_icmp .eq 39, 3) := dk_159 0 39 (dk_at dksX5_isSign_1 3 rfl rfl)
theorem dX5_isSign_30 : decode cX5_isSign 30 = .ok (.iload_n 0, 1) := dk_26 (dk_at dksX5_isSign_1 6 rfl rfl)
theorem dX5_isSign_31 : decode cX5_isSign 31 = .ok (.bipush 61, 2) := dk_16 61 (dk_at dksX5_isSign_1 7 rfl rfl)
theorem dX5_isSign_33 : decode cX5_isSign 33 = .ok (.if_icmp .eq 33, 3) := dk_159 0 33 (dk_at dksX5_isSign_1 9 rfl rfl)
theorem dX5_isSign_36 : decode cX5_isSign 36 = .ok (.iload_n 0, 1) := dk_26 (dk_at dksX5_isSign_1 12 rfl rfl)
theorem dX5_isSign_37 : decode cX5_isSign 37 = .ok (.bipush 43, 2) := dk_16 43 (dk_at dksX5_isSign_1 13 rfl rfl)
theorem dX5_isSign_39 : decode cX5_isSign 39 = .ok (.if_icmp .eq 27, 3) := dk_159 0 27 (dk_at dksX5_isSign_1 15 rfl rfl)
theorem dX5_isSign_42 : decode cX5_isSign 42 = .ok (.iload_n 0, 1) := dk_26 (dk_at dksX5_isSign_1 18 rfl rfl)
theorem dX5_isSign_43 : decode cX5_isSign 43 = .ok (.bipush 45, 2) := dk_16 45 (dk_at dksX5_isSign_1 19 rfl rfl)
theorem dX5_isSign_45 : decode cX5_isSign 45 = .ok (.if_icmp .eq 21, 3) := dk_159 0 21 (dk_at dksX5_isSign_1 21 rfl rfl)
theorem dX5_isSign_48 : decode cX5_isSign 48 = .ok (.iload_n 0, 1) := dk_26 (dk_at dksX5_isSign_2 0 rfl rfl)
theorem dX5_isSign_49 : decode cX5_isSign 49 = .ok (.bipush 42, 2) := dk_16 42 (dk_at dksX5_isSign_2 1 rfl rfl)
theorem dX5_isSign_51 : decode cX5_isSign 51 = .ok (.if_icmp .eq 15, 3) := dk_159 0 15 (dk_at dksX5_isSign_2 3 rfl rfl)
theorem dX5_isSign_54 : decode cX5_isSign 54 = .ok (.iload_n 0, 1) := dk_26 (dk_at dksX5_isSign_2 6 rfl rfl)
theorem dX5_isSign_55 : decode cX5_isSign 55 = .ok (.bipush 47, 2) := dk_16 47 (dk_at dksX5_isSign_2 7 rfl rfl)
theorem dX5_isSign_57 : decode cX5_isSign 57 = .ok (.if_icmp .eq 9, 3) := dk_159 0 9 (dk_at dksX5_isSign_2 9 rfl rfl)
theorem dX5_isSign_60 : decode cX5_isSign 60 = .ok (.iload_n 0, 1) := dk_26 (dk_at dksX5_isSign_2 12 rfl rfl)
theorem dX5_isSign_61 : decode cX5_isSign 61 = .ok (.bipush 37, 2) := dk_16 37 (dk_at dksX5_isSign_2 13 rfl rfl)
theorem dX5_isSign_63 : decode cX5_isSign 63 = .ok (.if_icmp .ne 7, 3) := dk_160 0 7 (dk_at dksX5_isSign_2 15 rfl rfl)
theorem dX5_isSign_66 : decode cX5_isSign 66 = .ok (.iconst 1, 1) := dk_4 (dk_at dksX5_isSign_2 18 rfl rfl)
theorem dX5_isSign_67 : decode cX5_isSign 67 = .ok (.goto 4, 3) := dk_167 0 4 (dk_at dksX5_isSign_2 19 rfl rfl)
theorem dX5_isSign_70 : decode cX5_isSign 70 = .ok (.iconst 0, 1) := dk_3 (dk_at dksX5_isSign_2 22 rfl rfl)
theorem dX5_isSign_71 : decode cX5_isSign 71 = .ok (.ireturn, 1) := dk_172 (dk_at dksX5_isSign_2 23 rfl rfl)
abbrev cX5_line : ByteArray := prog_17_method_18_code
def yX5_line : MethodName := ⟨RX5, "line", "()V"⟩
def dkwX5_line_9 : List UInt8 := [180, 0, 207, 154, 0, 10, 42, 182, 0, 210, 167, 0, 8, 42, 182, 0, 96, 191, 177]
abbrev dktX5_line_9 : List UInt8 := dkwX5_line_9 ++ []
def dkwX5_line_8 : List UInt8 := [180, 0, 201, 154, 0, 10, 42, 182, 0, 205, 167, 0, 31, 42, 18, 128, 182, 0, 86, 153, 0, 17, 42]
abbrev dktX5_line_8 : List UInt8 := dkwX5_line_8 ++ dktX5_line_9
def dkwX5_line_7 : List UInt8 := [180, 0, 196, 199, 0, 10, 42, 182, 0, 199, 167, 0, 54, 42, 18, 126, 182, 0, 86, 153, 0, 17, 42]
abbrev dktX5_line_7 : List UInt8 := dkwX5_line_7 ++ dktX5_line_8
def dkwX5_line_6 : List UInt8 := [162, 0, 10, 42, 182, 0, 194, 167, 0, 80, 42, 18, 124, 182, 0, 86, 153, 0, 20, 42, 180, 0, 24]
abbrev dktX5_line_6 : List UInt8 := dkwX5_line_6 ++ dktX5_line_7
def dkwX5_line_5 : List UInt8 := [42, 182, 0, 189, 167, 0, 107, 42, 18, 122, 182, 0, 86, 153, 0, 21, 42, 180, 0, 24, 180, 0, 191, 8]
abbrev dktX5_line_5 : List UInt8 := dkwX5_line_5 ++ dktX5_line_6
def dkwX5_line_4 : List UInt8 := [18, 116, 182, 0, 86, 153, 0, 10, 42, 182, 0, 187, 167, 0, 123, 42, 18, 118, 182, 0, 86, 153, 0, 10]
abbrev dktX5_line_4 : List UInt8 := dkwX5_line_4 ++ dktX5_line_5
def dkwX5_line_3 : List UInt8 := [182, 0, 183, 167, 0, 155, 42, 18, 114, 182, 0, 86, 153, 0, 10, 42, 182, 0, 185, 167, 0, 139, 42]
abbrev dktX5_line_3 : List UInt8 := dkwX5_line_3 ++ dktX5_line_4
def dkwX5_line_2 : List UInt8 := [182, 0, 176, 8, 162, 0, 10, 42, 182, 0, 181, 167, 0, 171, 42, 18, 112, 182, 0, 86, 153, 0, 10, 42]
abbrev dktX5_line_2 : List UInt8 := dkwX5_line_2 ++ dktX5_line_3
def dkwX5_line_1 : List UInt8 := [182, 0, 179, 167, 0, 201, 42, 18, 106, 182, 0, 86, 153, 0, 24, 42, 180, 0, 24, 180, 0, 150]
abbrev dktX5_line_1 : List UInt8 := dkwX5_line_1 ++ dktX5_line_2
def dkwX5_line_0 : List UInt8 := [42, 18, 104, 182, 0, 86, 153, 0, 24, 42, 180, 0, 24, 180, 0, 173, 182, 0, 176, 6, 162, 0, 10, 42]
abbrev dktX5_line_0 : List UInt8 := dkwX5_line_0 ++ dktX5_line_1
theorem dksX5_line_0 : cX5_line.data.toList.drop 0 = dktX5_line_0 := by decide +kernel
theorem dksX5_line_1 : cX5_line.data.toList.drop 24 = dktX5_line_1 := dk_seg dksX5_line_0 24 rfl rfl
theorem dksX5_line_2 : cX5_line.data.toList.drop 46 = dktX5_line_2 := dk_seg dksX5_line_1 22 rfl rfl
theorem dksX5_line_3 : cX5_line.data.toList.drop 70 = dktX5_line_3 := dk_seg dksX5_line_2 24 rfl rfl
theorem dksX5_line_4 : cX5_line.data.toList.drop 93 = dktX5_line_4 := dk_seg dksX5_line_3 23 rfl rfl
theorem dksX5_line_5 : cX5_line.data.toList.drop 117 = dktX5_line_5 := dk_seg dksX5_line_4 24 rfl rfl
theorem dksX5_line_6 : cX5_line.data.toList.drop 141 = dktX5_line_6 := dk_seg dksX5_line_5 24 rfl rfl
theorem dksX5_line_7 : cX5_line.data.toList.drop 164 = dktX5_line_7 := dk_seg dksX5_line_6 23 rfl rfl
theorem dksX5_line_8 : cX5_line.data.toList.drop 187 = dktX5_line_8 := dk_seg dksX5_line_7 23 rfl rfl
theorem dksX5_line_9 : cX5_line.data.toList.drop 210 = dktX5_line_9 := dk_seg dksX5_line_8 23 rfl rfl
theorem dX5_line_0 : decode cX5_line 0 = .ok (.aload_n 0, 1) := dk_42 (dk_at dksX5_line_0 0 rfl rfl)
theorem dX5_line_1 : decode cX5_line 1 = .ok (.ldc 104, 2) := dk_18 104 (dk_at dksX5_line_0 1 rfl rfl)
theorem dX5_line_3 : decode cX5_line 3 = .ok (.invokevirtual 86, 3) := dk_182 0 86 (dk_at dksX5_line_0 3 rfl rfl)
theorem dX5_line_6 : decode cX5_line 6 = .ok (.ifCond .eq 24, 3) := dk_153 0 24 (dk_at dksX5_line_0 6 rfl rfl)
theorem dX5_line_9 : decode cX5_line 9 = .ok (.aload_n 0, 1) := dk_42 (dk_at dksX5_line_0 9 rfl rfl)
theorem dX5_line_10 : decode cX5_line 10 = .ok (.getfield 24, 3) := dk_180 0 24 (dk_at dksX5_line_0 10 rfl rfl)
theorem dX5_line_13 : decode cX5_line 13 = .ok (.getfield 173, 3) := dk_180 0 173 (dk_at dksX5_line_0 13 rfl rfl)
theorem dX5_line_16 : decode cX5_line 16 = .ok (.invokevirtual 176, 3) := dk_182 0 176 (dk_at dksX5_line_0 16 rfl rfl)
theorem dX5_line_19 : decode cX5_line 19 = .ok (.iconst 3, 1) := dk_6 (dk_at dksX5_line_0 19 rfl rfl)
theorem dX5_line_20 : decode cX5_line 20 = .ok (.if_icmp .ge 10, 3) := dk_162 0 10 (dk_at dksX5_line_0 20 rfl rfl)
theorem dX5_line_23 : decode cX5_line 23 = .ok (.aload_n 0, 1) := dk_42 (dk_at dksX5_line_0 23 rfl rfl)
theorem dX5_line_24 : decode cX5_line 24 = .ok (.invokevirtual 179, 3) := dk_182 0 179 (dk_at dksX5_line_1 0 rfl rfl)
theorem dX5_line_27 : decode cX5_line 27 = .ok (.goto 201, 3) := dk_167 0 201 (dk_at dksX5_line_1 3 rfl rfl)
theorem dX5_line_30 : decode cX5_line 30 = .ok (.aload_n 0, 1) := dk_42 (dk_at dksX5_line_1 6 rfl rfl)
theorem dX5_line_31 : decode cX5_line 31 = .ok (.ldc 106, 2) := dk_18 106 (dk_at dksX5_line_1 7 rfl rfl)
theorem dX5_line_33 : decode cX5_line 33 = .ok (.invokevirtual 86, 3) := dk_182 0 86 (dk_at dksX5_line_1 9 rfl rfl)
theorem dX5_line_36 : decode cX5_line 36 = .ok (.ifCond .eq 24, 3) := dk_153 0 24 (dk_at dksX5_line_1 12 rfl rfl)
theorem dX5_line_39 : decode cX5_line 39 = .ok (.aload_n 0, 1) := dk_42 (dk_at dksX5_line_1 15 rfl rfl)
theorem dX5_line_40 : decode cX5_line 40 = .ok (.getfield 24, 3) := dk_180 0 24 (dk_at dksX5_line_1 16 rfl rfl)
theorem dX5_line_43 : decode cX5_line 43 = .ok (.getfield 150, 3) := dk_180 0 150 (dk_at dksX5_line_1 19 rfl rfl)
theorem dX5_line_46 : decode cX5_line 46 = .ok (.invokevirtual 176, 3) := dk_182 0 176 (dk_at dksX5_line_2 0 rfl rfl)
theorem dX5_line_49 : decode cX5_line 49 = .ok (.iconst 5, 1) := dk_8 (dk_at dksX5_line_2 3 rfl rfl)
theorem dX5_line_50 : decode cX5_line 50 = .ok (.if_icmp .ge 10, 3) := dk_162 0 10 (dk_at dksX5_line_2 4 rfl rfl)
theorem dX5_line_53 : decode cX5_line 53 = .ok (.aload_n 0, 1) := dk_42 (dk_at dksX5_line_2 7 rfl rfl)
theorem dX5_line_54 : decode cX5_line 54 = .ok (.invokevirtual 181, 3) := dk_182 0 181 (dk_at dksX5_line_2 8 rfl rfl)
theorem dX5_line_57 : decode cX5_line 57 = .ok (.goto 171, 3) := dk_167 0 171 (dk_at dksX5_line_2 11 rfl rfl)
theorem dX5_line_60 : decode cX5_line 60 = .ok (.aload_n 0, 1) := dk_42 (dk_at dksX5_line_2 14 rfl rfl)
theorem dX5_line_61 : decode cX5_line 61 = .ok (.ldc 112, 2) := dk_18 112 (dk_at dksX5_line_2 15 rfl rfl)
theorem dX5_line_63 : decode cX5_line 63 = .ok (.invokevirtual 86, 3) := dk_182 0 86 (dk_at dksX5_line_2 17 rfl rfl)
theorem dX5_line_66 : decode cX5_line 66 = .ok (.ifCond .eq 10, 3) := dk_153 0 10 (dk_at dksX5_line_2 20 rfl rfl)
theorem dX5_line_69 : decode cX5_line 69 = .ok (.aload_n 0, 1) := dk_42 (dk_at dksX5_line_2 23 rfl rfl)
theorem dX5_line_70 : decode cX5_line 70 = .ok (.invokevirtual 183, 3) := dk_182 0 183 (dk_at dksX5_line_3 0 rfl rfl)
theorem dX5_line_73 : decode cX5_line 73 = .ok (.goto 155, 3) := dk_167 0 155 (dk_at dksX5_line_3 3 rfl rfl)
theorem dX5_line_76 : decode cX5_line 76 = .ok (.aload_n 0, 1) := dk_42 (dk_at dksX5_line_3 6 rfl rfl)
theorem dX5_line_77 : decode cX5_line 77 = .ok (.ldc 114, 2) := dk_18 114 (dk_at dksX5_line_3 7 rfl rfl)
theorem dX5_line_79 : decode cX5_line 79 = .ok (.invokevirtual 86, 3) := dk_182 0 86 (dk_at dksX5_line_3 9 rfl rfl)
theorem dX5_line_82 : decode cX5_line 82 = .ok (.ifCond .eq 10, 3) := dk_153 0 10 (dk_at dksX5_line_3 12 rfl rfl)
theorem dX5_line_85 : decode cX5_line 85 = .ok (.aload_n 0, 1) := dk_42 (dk_at dksX5_line_3 15 rfl rfl)
theorem dX5_line_86 : decode cX5_line 86 = .ok (.invokevirtual 185, 3) := dk_182 0 185 (dk_at dksX5_line_3 16 rfl rfl)
theorem dX5_line_89 : decode cX5_line 89 = .ok (.goto 139, 3) := dk_167 0 139 (dk_at dksX5_line_3 19 rfl rfl)
theorem dX5_line_92 : decode cX5_line 92 = .ok (.aload_n 0, 1) := dk_42 (dk_at dksX5_line_3 22 rfl rfl)
theorem dX5_line_93 : decode cX5_line 93 = .ok (.ldc 116, 2) := dk_18 116 (dk_at dksX5_line_4 0 rfl rfl)
theorem dX5_line_95 : decode cX5_line 95 = .ok (.invokevirtual 86, 3) := dk_182 0 86 (dk_at dksX5_line_4 2 rfl rfl)
theorem dX5_line_98 : decode cX5_line 98 = .ok (.ifCond .eq 10, 3) := dk_153 0 10 (dk_at dksX5_line_4 5 rfl rfl)
theorem dX5_line_101 : decode cX5_line 101 = .ok (.aload_n 0, 1) := dk_42 (dk_at dksX5_line_4 8 rfl rfl)
theorem dX5_line_102 : decode cX5_line 102 = .ok (.invokevirtual 187, 3) := dk_182 0 187 (dk_at dksX5_line_4 9 rfl rfl)
theorem dX5_line_105 : decode cX5_line 105 = .ok (.goto 123, 3) := dk_167 0 123 (dk_at dksX5_line_4 12 rfl rfl)
theorem dX5_line_108 : decode cX5_line 108 = .ok (.aload_n 0, 1) := dk_42 (dk_at dksX5_line_4 15 rfl rfl)
theorem dX5_line_109 : decode cX5_line 109 = .ok (.ldc 118, 2) := dk_18 118 (dk_at dksX5_line_4 16 rfl rfl)
theorem dX5_line_111 : decode cX5_line 111 = .ok (.invokevirtual 86, 3) := dk_182 0 86 (dk_at dksX5_line_4 18 rfl rfl)
theorem dX5_line_114 : decode cX5_line 114 = .ok (.ifCond .eq 10, 3) := dk_153 0 10 (dk_at dksX5_line_4 21 rfl rfl)
theorem dX5_line_117 : decode cX5_line 117 = .ok (.aload_n 0, 1) := dk_42 (dk_at dksX5_line_5 0 rfl rfl)
theorem dX5_line_118 : decode cX5_line 118 = .ok (.invokevirtual 189, 3) := dk_182 0 189 (dk_at dksX5_line_5 1 rfl rfl)
theorem dX5_line_121 : decode cX5_line 121 = .ok (.goto 107, 3) := dk_167 0 107 (dk_at dksX5_line_5 4 rfl rfl)
theorem dX5_line_124 : decode cX5_line 124 = .ok (.aload_n 0, 1) := dk_42 (dk_at dksX5_line_5 7 rfl rfl)
theorem dX5_line_125 : decode cX5_line 125 = .ok (.ldc 122, 2) := dk_18 122 (dk_at dksX5_line_5 8 rfl rfl)
theorem dX5_line_127 : decode cX5_line 127 = .ok (.invokevirtual 86, 3) := dk_182 0 86 (dk_at dksX5_line_5 10 rfl rfl)
theorem dX5_line_130 : decode cX5_line 130 = .ok (.ifCond .eq 21, 3) := dk_153 0 21 (dk_at dksX5_line_5 13 rfl rfl)
theorem dX5_line_133 : decode cX5_line 133 = .ok (.aload_n 0, 1) := dk_42 (dk_at dksX5_line_5 16 rfl rfl)
theorem dX5_line_134 : decode cX5_line 134 = .ok (.getfield 24, 3) := dk_180 0 24 (dk_at dksX5_line_5 17 rfl rfl)
theorem dX5_line_137 : decode cX5_line 137 = .ok (.getfield 191, 3) := dk_180 0 191 (dk_at dksX5_line_5 20 rfl rfl)
theorem dX5_line_140 : decode cX5_line 140 = .ok (.iconst 5, 1) := dk_8 (dk_at dksX5_line_5 23 rfl rfl)
theorem dX5_line_141 : decode cX5_line 141 = .ok (.if_icmp .ge 10, 3) := dk_162 0 10 (dk_at dksX5_line_6 0 rfl rfl)
theorem dX5_line_144 : decode cX5_line 144 = .ok (.aload_n 0, 1) := dk_42 (dk_at dksX5_line_6 3 rfl rfl)
theorem dX5_line_145 : decode cX5_line 145 = .ok (.invokevirtual 194, 3) := dk_182 0 194 (dk_at dksX5_line_6 4 rfl rfl)
theorem dX5_line_148 : decode cX5_line 148 = .ok (.goto 80, 3) := dk_167 0 80 (dk_at dksX5_line_6 7 rfl rfl)
theorem dX5_line_151 : decode cX5_line 151 = .ok (.aload_n 0, 1) := dk_42 (dk_at dksX5_line_6 10 rfl rfl)
theorem dX5_line_152 : decode cX5_line 152 = .ok (.ldc 124, 2) := dk_18 124 (dk_at dksX5_line_6 11 rfl rfl)
theorem dX5_line_154 : decode cX5_line 154 = .ok (.invokevirtual 86, 3) := dk_182 0 86 (dk_at dksX5_line_6 13 rfl rfl)
theorem dX5_line_157 : decode cX5_line 157 = .ok (.ifCond .eq 20, 3) := dk_153 0 20 (dk_at dksX5_line_6 16 rfl rfl)
theorem dX5_line_160 : decode cX5_line 160 = .ok (.aload_n 0, 1) := dk_42 (dk_at dksX5_line_6 19 rfl rfl)
theorem dX5_line_161 : decode cX5_line 161 = .ok (.getfield 24, 3) := dk_180 0 24 (dk_at dksX5_line_6 20 rfl rfl)
theorem dX5_line_164 : decode cX5_line 164 = .ok (.getfield 196, 3) := dk_180 0 196 (dk_at dksX5_line_7 0 rfl rfl)
theorem dX5_line_167 : decode cX5_line 167 = .ok (.ifnonnull 10, 3) := dk_199 0 10 (dk_at dksX5_line_7 3 rfl rfl)
theorem dX5_line_170 : decode cX5_line 170 = .ok (.aload_n 0, 1) := dk_42 (dk_at dksX5_line_7 6 rfl rfl)
theorem dX5_line_171 : decode cX5_line 171 = .ok (.invokevirtual 199, 3) := dk_182 0 199 (dk_at dksX5_line_7 7 rfl rfl)
theorem dX5_line_174 : decode cX5_line 174 = .ok (.goto 54, 3) := dk_167 0 54 (dk_at dksX5_line_7 10 rfl rfl)
theorem dX5_line_177 : decode cX5_line 177 = .ok (.aload_n 0, 1) := dk_42 (dk_at dksX5_line_7 13 rfl rfl)
theorem dX5_line_178 : decode cX5_line 178 = .ok (.ldc 126, 2) := dk_18 126 (dk_at dksX5_line_7 14 rfl rfl)
theorem dX5_line_180 : decode cX5_line 180 = .ok (.invokevirtual 86, 3) := dk_182 0 86 (dk_at dksX5_line_7 16 rfl rfl)
theorem dX5_line_183 : decode cX5_line 183 = .ok (.ifCond .eq 17, 3) := dk_153 0 17 (dk_at dksX5_line_7 19 rfl rfl)
theorem dX5_line_186 : decode cX5_line 186 = .ok (.aload_n 0, 1) := dk_42 (dk_at dksX5_line_7 22 rfl rfl)
theorem dX5_line_187 : decode cX5_line 187 = .ok (.getfield 201, 3) := dk_180 0 201 (dk_at dksX5_line_8 0 rfl rfl)
theorem dX5_line_190 : decode cX5_line 190 = .ok (.ifCond .ne 10, 3) := dk_154 0 10 (dk_at dksX5_line_8 3 rfl rfl)
theorem dX5_line_193 : decode cX5_line 193 = .ok (.aload_n 0, 1) := dk_42 (dk_at dksX5_line_8 6 rfl rfl)
theorem dX5_line_194 : decode cX5_line 194 = .ok (.invokevirtual 205, 3) := dk_182 0 205 (dk_at dksX5_line_8 7 rfl rfl)
theorem dX5_line_197 : decode cX5_line 197 = .ok (.goto 31, 3) := dk_167 0 31 (dk_at dksX5_line_8 10 rfl rfl)
theorem dX5_line_200 : decode cX5_line 200 = .ok (.aload_n 0, 1) := dk_42 (dk_at dksX5_line_8 13 rfl rfl)
theorem dX5_line_201 : decode cX5_line 201 = .ok (.ldc 128, 2) := dk_18 128 (dk_at dksX5_line_8 14 rfl rfl)
theorem dX5_line_203 : decode cX5_line 203 = .ok (.invokevirtual 86, 3) := dk_182 0 86 (dk_at dksX5_line_8 16 rfl rfl)
theorem dX5_line_206 : decode cX5_line 206 = .ok (.ifCond .eq 17, 3) := dk_153 0 17 (dk_at dksX5_line_8 19 rfl rfl)
theorem dX5_line_209 : decode cX5_line 209 = .ok (.aload_n 0, 1) := dk_42 (dk_at dksX5_line_8 22 rfl rfl)
theorem dX5_line_210 : decode cX5_line 210 = .ok (.getfield 207, 3) := dk_180 0 207 (dk_at dksX5_line_9 0 rfl rfl)
theorem dX5_line_213 : decode cX5_line 213 = .ok (.ifCond .ne 10, 3) := dk_154 0 10 (dk_at dksX5_line_9 3 rfl rfl)
theorem dX5_line_216 : decode cX5_line 216 = .ok (.aload_n 0, 1) := dk_42 (dk_at dksX5_line_9 6 rfl rfl)
theorem dX5_line_217 : decode cX5_line 217 = .ok (.invokevirtual 210, 3) := dk_182 0 210 (dk_at dksX5_line_9 7 rfl rfl)
theorem dX5_line_220 : decode cX5_line 220 = .ok (.goto 8, 3) := dk_167 0 8 (dk_at dksX5_line_9 10 rfl rfl)
theorem dX5_line_223 : decode cX5_line 223 = .ok (.aload_n 0, 1) := dk_42 (dk_at dksX5_line_9 13 rfl rfl)
theorem dX5_line_224 : decode cX5_line 224 = .ok (.invokevirtual 96, 3) := dk_182 0 96 (dk_at dksX5_line_9 14 rfl rfl)
theorem dX5_line_227 : decode cX5_line 227 = .ok (.athrow, 1) := dk_191 (dk_at dksX5_line_9 17 rfl rfl)
theorem dX5_line_228 : decode cX5_line 228 = .ok (.return_, 1) := dk_177 (dk_at dksX5_line_9 18 rfl rfl)
abbrev cX5_is : ByteArray := prog_17_method_8_code
def yX5_is : MethodName := ⟨RX5, "is", "(Ljava/lang/String;)Z"⟩
def dkwX5_is_1 : List UInt8 := [172]
abbrev dktX5_is_1 : List UInt8 := dkwX5_is_1 ++ []
def dkwX5_is_0 : List UInt8 := [42, 180, 0, 46, 4, 160, 0, 18, 42, 180, 0, 17, 43, 182, 0, 80, 153, 0, 7, 4, 167, 0, 4, 3]
abbrev dktX5_is_0 : List UInt8 := dkwX5_is_0 ++ dktX5_is_1
theorem dksX5_is_0 : cX5_is.data.toList.drop 0 = dktX5_is_0 := by decide +kernel
theorem dksX5_is_1 : cX5_is.data.toList.drop 24 = dktX5_is_1 := dk_seg dksX5_is_0 24 rfl rfl
theorem dX5_is_0 : decode cX5_is 0 = .ok (.aload_n 0, 1) := dk_42 (dk_at dksX5_is_0 0 rfl rfl)
theorem dX5_is_1 : decode cX5_is 1 = .ok (.getfield 46, 3) := dk_180 0 46 (dk_at dksX5_is_0 1 rfl rfl)
theorem dX5_is_4 : decode cX5_is 4 = .ok (.iconst 1, 1) := dk_4 (dk_at dksX5_is_0 4 rfl rfl)
theorem dX5_is_5 : decode cX5_is 5 = .ok (.if_icmp .ne 18, 3) := dk_160 0 18 (dk_at dksX5_is_0 5 rfl rfl)
theorem dX5_is_8 : decode cX5_is 8 = .ok (.aload_n 0, 1) := dk_42 (dk_at dksX5_is_0 8 rfl rfl)
theorem dX5_is_9 : decode cX5_is 9 = .ok (.getfield 17, 3) := dk_180 0 17 (dk_at dksX5_is_0 9 rfl rfl)
theorem dX5_is_12 : decode cX5_is 12 = .ok (.aload_n 1, 1) := dk_43 (dk_at dksX5_is_0 12 rfl rfl)
theorem dX5_is_13 : decode cX5_is 13 = .ok (.invokevirtual 80, 3) := dk_182 0 80 (dk_at dksX5_is_0 13 rfl rfl)
theorem dX5_is_16 : decode cX5_is 16 = .ok (.ifCond .eq 7, 3) := dk_153 0 7 (dk_at dksX5_is_0 16 rfl rfl)
theorem dX5_is_19 : decode cX5_is 19 = .ok (.iconst 1, 1) := dk_4 (dk_at dksX5_is_0 19 rfl rfl)
theorem dX5_is_20 : decode cX5_is 20 = .ok (.goto 4, 3) := dk_167 0 4 (dk_at dksX5_is_0 20 rfl rfl)
theorem dX5_is_23 : decode cX5_is 23 = .ok (.iconst 0, 1) := dk_3 (dk_at dksX5_is_0 23 rfl rfl)
theorem dX5_is_24 : decode cX5_is 24 = .ok (.ireturn, 1) := dk_172 (dk_at dksX5_is_1 0 rfl rfl)
abbrev cX5_kind : ByteArray := prog_17_method_19_code
def yX5_kind : MethodName := ⟨RX5, "kind", "()V"⟩
def dkwX5_kind_1 : List UInt8 := [182, 0, 212, 182, 0, 216, 87, 177]
abbrev dktX5_kind_1 : List UInt8 := dkwX5_kind_1 ++ []
def dkwX5_kind_0 : List UInt8 := [42, 182, 0, 90, 42, 180, 0, 24, 180, 0, 173, 42, 42, 180, 0, 24, 42, 180, 0, 17, 182, 0, 168]
abbrev dktX5_kind_0 : List UInt8 := dkwX5_kind_0 ++ dktX5_kind_1
theorem dksX5_kind_0 : cX5_kind.data.toList.drop 0 = dktX5_kind_0 := by decide +kernel
theorem dksX5_kind_1 : cX5_kind.data.toList.drop 23 = dktX5_kind_1 := dk_seg dksX5_kind_0 23 rfl rfl
theorem dX5_kind_0 : decode cX5_kind 0 = .ok (.aload_n 0, 1) := dk_42 (dk_at dksX5_kind_0 0 rfl rfl)
theorem dX5_kind_1 : decode cX5_kind 1 = .ok (.invokevirtual 90, 3) := dk_182 0 90 (dk_at dksX5_kind_0 1 rfl rfl)
theorem dX5_kind_4 : decode cX5_kind 4 = .ok (.aload_n 0, 1) := dk_42 (dk_at dksX5_kind_0 4 rfl rfl)
theorem dX5_kind_5 : decode cX5_kind 5 = .ok (.getfield 24, 3) := dk_180 0 24 (dk_at dksX5_kind_0 5 rfl rfl)
theorem dX5_kind_8 : decode cX5_kind 8 = .ok (.getfield 173, 3) := dk_180 0 173 (dk_at dksX5_kind_0 8 rfl rfl)
theorem dX5_kind_11 : decode cX5_kind 11 = .ok (.aload_n 0, 1) := dk_42 (dk_at dksX5_kind_0 11 rfl rfl)
theorem dX5_kind_12 : decode cX5_kind 12 = .ok (.aload_n 0, 1) := dk_42 (dk_at dksX5_kind_0 12 rfl rfl)
theorem dX5_kind_13 : decode cX5_kind 13 = .ok (.getfield 24, 3) := dk_180 0 24 (dk_at dksX5_kind_0 13 rfl rfl)
theorem dX5_kind_16 : decode cX5_kind 16 = .ok (.aload_n 0, 1) := dk_42 (dk_at dksX5_kind_0 16 rfl rfl)
theorem dX5_kind_17 : decode cX5_kind 17 = .ok (.getfield 17, 3) := dk_180 0 17 (dk_at dksX5_kind_0 17 rfl rfl)
theorem dX5_kind_20 : decode cX5_kind 20 = .ok (.invokevirtual 168, 3) := dk_182 0 168 (dk_at dksX5_kind_0 20 rfl rfl)
theorem dX5_kind_23 : decode cX5_kind 23 = .ok (.invokevirtual 212, 3) := dk_182 0 212 (dk_at dksX5_kind_1 0 rfl rfl)
theorem dX5_kind_26 : decode cX5_kind 26 = .ok (.invokevirtual 216, 3) := dk_182 0 216 (dk_at dksX5_kind_1 3 rfl rfl)
theorem dX5_kind_29 : decode cX5_kind 29 = .ok (.pop, 1) := dk_87 (dk_at dksX5_kind_1 6 rfl rfl)
theorem dX5_kind_30 : decode cX5_kind 30 = .ok (.return_, 1) := dk_177 (dk_at dksX5_kind_1 7 rfl rfl)
abbrev cX5_newName : ByteArray := prog_17_method_13_code
def yX5_newName : MethodName := ⟨RX5, "newName", "(I)Ljava/lang/String;"⟩
def dkwX5_newName_1 : List UInt8 := [180, 0, 43, 183, 0, 77, 191, 42, 180, 0, 17, 77, 42, 182, 0, 90, 44, 176]
abbrev dktX5_newName_1 : List UInt8 := dkwX5_newName_1 ++ []
def dkwX5_newName_0 : List UInt8 := [42, 182, 0, 146, 154, 0, 8, 42, 182, 0, 96, 191, 27, 155, 0, 16, 187, 0, 75, 89, 6, 42]
abbrev dktX5_newName_0 : List UInt8 := dkwX5_newName_0 ++ dktX5_newName_1
theorem dksX5_newName_0 : cX5_newName.data.toList.drop 0 = dktX5_newName_0 := by decide +kernel
theorem dksX5_newName_1 : cX5_newName.data.toList.drop 22 = dktX5_newName_1 := dk_seg dksX5_newName_0 22 rfl rfl
theorem dX5_newName_0 : decode cX5_newName 0 = .ok (.aload_n 0, 1) := dk_42 (dk_at dksX5_newName_0 0 rfl rfl)
theorem dX5_newName_1 : decode cX5_newName 1 = .ok (.invokevirtual 146, 3) := dk_182 0 146 (dk_at dksX5_newName_0 1 rfl rfl)
theorem dX5_newName_4 : decode cX5_newName 4 = .ok (.ifCond .ne 8, 3) := dk_154 0 8 (dk_at dksX5_newName_0 4 rfl rfl)
theorem dX5_newName_7 : decode cX5_newName 7 = .ok (.aload_n 0, 1) := dk_42 (dk_at dksX5_newName_0 7 rfl rfl)
theorem dX5_newName_8 : decode cX5_newName 8 = .ok (.invokevirtual 96, 3) := dk_182 0 96 (dk_at dksX5_newName_0 8 rfl rfl)
theorem dX5_newName_11 : decode cX5_newName 11 = .ok (.athrow, 1) := dk_191 (dk_at dksX5_newName_0 11 rfl rfl)
theorem dX5_newName_12 : decode cX5_newName 12 = .ok (.iload_n 1, 1) := dk_27 (dk_at dksX5_newName_0 12 rfl rfl)
theorem dX5_newName_13 : decode cX5_newName 13 = .ok (.ifCond .lt 16, 3) := dk_155 0 16 (dk_at dksX5_newName_0 13 rfl rfl)
theorem dX5_newName_16 : decode cX5_newName 16 = .ok (.new 75, 3) := dk_187 0 75 (dk_at dksX5_newName_0 16 rfl rfl)
theorem dX5_newName_19 : decode cX5_newName 19 = .ok (.dup, 1) := dk_89 (dk_at dksX5_newName_0 19 rfl rfl)
theorem dX5_newName_20 : decode cX5_newName 20 = .ok (.iconst 3, 1) := dk_6 (dk_at dksX5_newName_0 20 rfl rfl)
theorem dX5_newName_21 : decode cX5_newName 21 = .ok (.aload_n 0, 1) := dk_42 (dk_at dksX5_newName_0 21 rfl rfl)
theorem dX5_newName_22 : decode cX5_newName 22 = .ok (.getfield 43, 3) := dk_180 0 43 (dk_at dksX5_newName_1 0 rfl rfl)
theorem dX5_newName_25 : decode cX5_newName 25 = .ok (.invokespecial 77, 3) := dk_183 0 77 (dk_at dksX5_newName_1 3 rfl rfl)
theorem dX5_newName_28 : decode cX5_newName 28 = .ok (.athrow, 1) := dk_191 (dk_at dksX5_newName_1 6 rfl rfl)
theorem dX5_newName_29 : decode cX5_newName 29 = .ok (.aload_n 0, 1) := dk_42 (dk_at dksX5_newName_1 7 rfl rfl)
theorem dX5_newName_30 : decode cX5_newName 30 = .ok (.getfield 17, 3) := dk_180 0 17 (dk_at dksX5_newName_1 8 rfl rfl)
theorem dX5_newName_33 : decode cX5_newName 33 = .ok (.astore_n 2, 1) := dk_77 (dk_at dksX5_newName_1 11 rfl rfl)
theorem dX5_newName_34 : decode cX5_newName 34 = .ok (.aload_n 0, 1) := dk_42 (dk_at dksX5_newName_1 12 rfl rfl)
theorem dX5_newName_35 : decode cX5_newName 35 = .ok (.invokevirtual 90, 3) := dk_182 0 90 (dk_at dksX5_newName_1 13 rfl rfl)
theorem dX5_newName_38 : decode cX5_newName 38 = .ok (.aload_n 2, 1) := dk_44 (dk_at dksX5_newName_1 16 rfl rfl)
theorem dX5_newName_39 : decode cX5_newName 39 = .ok (.areturn, 1) := dk_176 (dk_at dksX5_newName_1 17 rfl rfl)
abbrev cX5_isName : ByteArray := prog_17_method_12_code
def yX5_isName : MethodName := ⟨RX5, "isName", "()Z"⟩
def dkwX5_isName_16 : List UInt8 := [3, 172, 4, 172]
abbrev dktX5_isName_16 : List UInt8 := dkwX5_isName_16 ++ []
def dkwX5_isName_15 : List UInt8 := [170, 0, 0, 0, 99, 0, 0, 0, 0, 0, 0, 0, 20, 0, 0, 0, 97, 0, 0, 0, 97, 0, 0, 0, 97, 0, 0, 0, 97, 0, 0, 0, 97, 0, 0, 0, 97, 0, 0, 0, 97, 0, 0, 0, 97, 0, 0, 0, 97, 0, 0, 0, 97, 0, 0, 0, 97, 0, 0, 0, 97, 0, 0, 0, 97, 0, 0, 0, 97, 0, 0, 0, 97, 0, 0, 0, 97, 0, 0, 0, 97, 0, 0, 0, 97, 0, 0, 0, 97, 0, 0, 0, 97, 0, 0, 0, 97]
abbrev dktX5_isName_15 : List UInt8 := dkwX5_isName_15 ++ dktX5_isName_16
def dkwX5_isName_14 : List UInt8 := [153, 0, 21, 16, 19, 61, 167, 0, 15, 43, 18, 144, 182, 0, 80, 153, 0, 6, 16, 20, 61, 28]
abbrev dktX5_isName_14 : List UInt8 := dkwX5_isName_14 ++ dktX5_isName_15
def dkwX5_isName_13 : List UInt8 := [167, 0, 45, 43, 18, 140, 182, 0, 80, 153, 0, 36, 16, 18, 61, 167, 0, 30, 43, 18, 142, 182, 0, 80]
abbrev dktX5_isName_13 : List UInt8 := dkwX5_isName_13 ++ dktX5_isName_14
def dkwX5_isName_12 : List UInt8 := [182, 0, 80, 153, 0, 66, 16, 16, 61, 167, 0, 60, 43, 18, 138, 182, 0, 80, 153, 0, 51, 16, 17, 61]
abbrev dktX5_isName_12 : List UInt8 := dkwX5_isName_12 ++ dktX5_isName_13
def dkwX5_isName_11 : List UInt8 := [16, 14, 61, 167, 0, 90, 43, 18, 134, 182, 0, 80, 153, 0, 81, 16, 15, 61, 167, 0, 75, 43, 18, 136]
abbrev dktX5_isName_11 : List UInt8 := dkwX5_isName_11 ++ dktX5_isName_12
def dkwX5_isName_10 : List UInt8 := [43, 18, 130, 182, 0, 80, 153, 0, 111, 16, 13, 61, 167, 0, 105, 43, 18, 132, 182, 0, 80, 153, 0, 96]
abbrev dktX5_isName_10 : List UInt8 := dkwX5_isName_10 ++ dktX5_isName_11
def dkwX5_isName_9 : List UInt8 := [153, 0, 141, 16, 11, 61, 167, 0, 135, 43, 18, 128, 182, 0, 80, 153, 0, 126, 16, 12, 61, 167, 0, 120]
abbrev dktX5_isName_9 : List UInt8 := dkwX5_isName_9 ++ dktX5_isName_10
def dkwX5_isName_8 : List UInt8 := [167, 0, 165, 43, 18, 124, 182, 0, 80, 153, 0, 156, 16, 10, 61, 167, 0, 150, 43, 18, 126, 182, 0, 80]
abbrev dktX5_isName_8 : List UInt8 := dkwX5_isName_8 ++ dktX5_isName_9
def dkwX5_isName_7 : List UInt8 := [182, 0, 80, 153, 0, 186, 16, 8, 61, 167, 0, 180, 43, 18, 122, 182, 0, 80, 153, 0, 171, 16, 9, 61]
abbrev dktX5_isName_7 : List UInt8 := dkwX5_isName_7 ++ dktX5_isName_8
def dkwX5_isName_6 : List UInt8 := [61, 167, 0, 210, 43, 18, 118, 182, 0, 80, 153, 0, 201, 16, 7, 61, 167, 0, 195, 43, 18, 120]
abbrev dktX5_isName_6 : List UInt8 := dkwX5_isName_6 ++ dktX5_isName_7
def dkwX5_isName_5 : List UInt8 := [18, 114, 182, 0, 80, 153, 0, 230, 8, 61, 167, 0, 225, 43, 18, 116, 182, 0, 80, 153, 0, 216, 16, 6]
abbrev dktX5_isName_5 : List UInt8 := dkwX5_isName_5 ++ dktX5_isName_6
def dkwX5_isName_4 : List UInt8 := [153, 1, 2, 6, 61, 167, 0, 253, 43, 18, 112, 182, 0, 80, 153, 0, 244, 7, 61, 167, 0, 239, 43]
abbrev dktX5_isName_4 : List UInt8 := dkwX5_isName_4 ++ dktX5_isName_5
def dkwX5_isName_3 : List UInt8 := [61, 167, 1, 25, 43, 18, 108, 182, 0, 80, 153, 1, 16, 5, 61, 167, 1, 11, 43, 18, 110, 182, 0, 80]
abbrev dktX5_isName_3 : List UInt8 := dkwX5_isName_3 ++ dktX5_isName_4
def dkwX5_isName_2 : List UInt8 := [43, 18, 104, 182, 0, 80, 153, 1, 44, 3, 61, 167, 1, 39, 43, 18, 106, 182, 0, 80, 153, 1, 30, 4]
abbrev dktX5_isName_2 : List UInt8 := dkwX5_isName_2 ++ dktX5_isName_3
def dkwX5_isName_1 : List UInt8 := [171, 0, 0, 0, 0, 1, 229, 0, 0, 0, 21, 201, 251, 68, 116, 0, 0, 1, 127, 0, 0, 13, 227, 0, 0, 1, 202, 0, 1, 121, 215, 0, 0, 1, 187, 0, 1, 140, 201, 0, 0, 1, 37, 0, 1, 165, 90, 0, 0, 0, 193, 0, 1, 170, 211, 0, 0, 1, 217, 0, 1, 176, 168, 0, 0, 0, 249, 0, 46, 58, 233, 0, 0, 1, 52, 0, 46, 186, 144, 0, 0, 0, 207, 0, 47, 45, 68, 0, 0, 1, 97, 0, 48, 140, 19, 0, 0, 1, 67, 0, 50, 59, 148, 0, 0, 0, 179, 0, 52, 140, 225, 0, 0, 1, 172, 0, 53, 76, 224, 0, 0, 1, 22, 0, 55, 159, 244, 0, 0, 1, 157, 5, 206, 210, 176, 0, 0, 1, 112, 5, 232, 250, 37, 0, 0, 1, 7, 5, 237, 199, 15, 0, 0, 1, 82, 6, 38, 14, 158, 0, 0, 0, 221, 6, 97, 50, 31, 0, 0, 0, 235, 6, 147, 133, 103, 0, 0, 1, 142]
abbrev dktX5_isName_1 : List UInt8 := dkwX5_isName_1 ++ dktX5_isName_2
def dkwX5_isName_0 : List UInt8 := [42, 180, 0, 46, 4, 159, 0, 5, 3, 172, 42, 180, 0, 17, 76, 2, 61, 43, 182, 0, 100]
abbrev dktX5_isName_0 : List UInt8 := dkwX5_isName_0 ++ dktX5_isName_1
theorem dksX5_isName_0 : cX5_isName.data.toList.drop 0 = dktX5_isName_0 := by decide +kernel
theorem dksX5_isName_1 : cX5_isName.data.toList.drop 21 = dktX5_isName_1 := dk_seg dksX5_isName_0 21 rfl rfl
theorem dksX5_isName_2 : cX5_isName.data.toList.drop 200 = dktX5_isName_2 := dk_seg dksX5_isName_1 179 rfl rfl
theorem dksX5_isName_3 : cX5_isName.data.toList.drop 224 = dktX5_isName_3 := dk_seg dksX5_isName_2 24 rfl rfl
theorem dksX5_isName_4 : cX5_isName.data.toList.drop 248 = dktX5_isName_4 := dk_seg dksX5_isName_3 24 rfl rfl
theorem dksX5_isName_5 : cX5_isName.data.toList.drop 271 = dktX5_isName_5 := dk_seg dksX5_isName_4 23 rfl rfl
theorem dksX5_isName_6 : cX5_isName.data.toList.drop 295 = dktX5_isName_6 := dk_seg dksX5_isName_5 24 rfl rfl
theorem dksX5_isName_7 : cX5_isName.data.toList.drop 317 = dktX5_isName_7 := dk_seg dksX5_isName_6 22 rfl rfl
theorem dksX5_isName_8 : cX5_isName.data.toList.drop 341 = dktX5_isName_8 := dk_seg dksX5_isName_7 24 rfl rfl
theorem dksX5_isName_9 : cX5_isName.data.toList.drop 365 = dktX5_isName_9 := dk_seg dksX5_isName_8 24 rfl rfl
theorem dksX5_isName_10 : cX5_isName.data.toList.drop 389 = dktX5_isName_10 := dk_seg dksX5_isName_9 24 rfl rfl
theorem dksX5_isName_11 : cX5_isName.data.toList.drop 413 = dktX5_isName_11 := dk_seg dksX5_isName_10 24 rfl rfl
theorem dksX5_isName_12 : cX5_isName.data.toList.drop 437 = dktX5_isName_12 := dk_seg dksX5_isName_11 24 rfl rfl
theorem dksX5_isName_13 : cX5_isName.data.toList.drop 461 = dktX5_isName_13 := dk_seg dksX5_isName_12 24 rfl rfl
theorem dksX5_isName_14 : cX5_isName.data.toList.drop 485 = dktX5_isName_14 := dk_seg dksX5_isName_13 24 rfl rfl
theorem dksX5_isName_15 : cX5_isName.data.toList.drop 507 = dktX5_isName_15 := dk_seg dksX5_isName_14 22 rfl rfl
theorem dksX5_isName_16 : cX5_isName.data.toList.drop 604 = dktX5_isName_16 := dk_seg dksX5_isName_15 97 rfl rfl
theorem dX5_isName_0 : decode cX5_isName 0 = .ok (.aload_n 0, 1) := dk_42 (dk_at dksX5_isName_0 0 rfl rfl)
theorem dX5_isName_1 : decode cX5_isName 1 = .ok (.getfield 46, 3) := dk_180 0 46 (dk_at dksX5_isName_0 1 rfl rfl)
theorem dX5_isName_4 : decode cX5_isName 4 = .ok (.iconst 1, 1) := dk_4 (dk_at dksX5_isName_0 4 rfl rfl)
theorem dX5_isName_5 : decode cX5_isName 5 = .ok (.if_icmp .eq 5, 3) := dk_159 0 5 (dk_at dksX5_isName_0 5 rfl rfl)
theorem dX5_isName_8 : decode cX5_isName 8 = .ok (.iconst 0, 1) := dk_3 (dk_at dksX5_isName_0 8 rfl rfl)
theorem dX5_isName_9 : decode cX5_isName 9 = .ok (.ireturn, 1) := dk_172 (dk_at dksX5_isName_0 9 rfl rfl)
theorem dX5_isName_10 : decode cX5_isName 10 = .ok (.aload_n 0, 1) := dk_42 (dk_at dksX5_isName_0 10 rfl rfl)
theorem dX5_isName_11 : decode cX5_isName 11 = .ok (.getfield 17, 3) := dk_180 0 17 (dk_at dksX5_isName_0 11 rfl rfl)
theorem dX5_isName_14 : decode cX5_isName 14 = .ok (.astore_n 1, 1) := dk_76 (dk_at dksX5_isName_0 14 rfl rfl)
theorem dX5_isName_15 : decode cX5_isName 15 = .ok (.iconst (-1), 1) := dk_2 (dk_at dksX5_isName_0 15 rfl rfl)
theorem dX5_isName_16 : decode cX5_isName 16 = .ok (.istore_n 2, 1) := dk_61 (dk_at dksX5_isName_0 16 rfl rfl)
theorem dX5_isName_17 : decode cX5_isName 17 = .ok (.aload_n 1, 1) := dk_43 (dk_at dksX5_isName_0 17 rfl rfl)
theorem dX5_isName_18 : decode cX5_isName 18 = .ok (.invokevirtual 100, 3) := dk_182 0 100 (dk_at dksX5_isName_0 18 rfl rfl)
theorem dX5_isName_21 : decode cX5_isName 21 = .ok (.lookupswitch 485 #[(-906279820, 383), (3555, 458), (96727, 443), (101577, 293), (107866, 193), (109267, 473), (110760, 249), (3029737, 308), (3062416, 207), (3091780, 353), (3181587, 323), (3292052, 179), (3443937, 428), (3493088, 278), (3645428, 413), (97440432, 368), (99154469, 263), (99469071, 338), (103157406, 221), (107033119, 235), (110331239, 398)], 179) := by decide +kernel
theorem dX5_isName_200 : decode cX5_isName 200 = .ok (.aload_n 1, 1) := dk_43 (dk_at dksX5_isName_2 0 rfl rfl)
theorem dX5_isName_201 : decode cX5_isName 201 = .ok (.ldc 104, 2) := dk_18 104 (dk_at dksX5_isName_2 1 rfl rfl)
theorem dX5_isName_203 : decode cX5_isName 203 = .ok (.invokevirtual 80, 3) := dk_182 0 80 (dk_at dksX5_isName_2 3 rfl rfl)
theorem dX5_isName_206 : decode cX5_isName 206 = .ok (.ifCond .eq 300, 3) := dk_153 1 44 (dk_at dksX5_isName_2 6 rfl rfl)
theorem dX5_isName_209 : decode cX5_isName 209 = .ok (.iconst 0, 1) := dk_3 (dk_at dksX5_isName_2 9 rfl rfl)
theorem dX5_isName_210 : decode cX5_isName 210 = .ok (.istore_n 2, 1) := dk_61 (dk_at dksX5_isName_2 10 rfl rfl)
theorem dX5_isName_211 : decode cX5_isName 211 = .ok (.goto 295, 3) := dk_167 1 39 (dk_at dksX5_isName_2 11 rfl rfl)
theorem dX5_isName_214 : decode cX5_isName 214 = .ok (.aload_n 1, 1) := dk_43 (dk_at dksX5_isName_2 14 rfl rfl)
theorem dX5_isName_215 : decode cX5_isName 215 = .ok (.ldc 106, 2) := dk_18 106 (dk_at dksX5_isName_2 15 rfl rfl)
theorem dX5_isName_217 : decode cX5_isName 217 = .ok (.invokevirtual 80, 3) := dk_182 0 80 (dk_at dksX5_isName_2 17 rfl rfl)
theorem dX5_isName_220 : decode cX5_isName 220 = .ok (.ifCond .eq 286, 3) := dk_153 1 30 (dk_at dksX5_isName_2 20 rfl rfl)
theorem dX5_isName_223 : decode cX5_isName 223 = .ok (.iconst 1, 1) := dk_4 (dk_at dksX5_isName_2 23 rfl rfl)
theorem dX5_isName_224 : decode cX5_isName 224 = .ok (.istore_n 2, 1) := dk_61 (dk_at dksX5_isName_3 0 rfl rfl)
theorem dX5_isName_225 : decode cX5_isName 225 = .ok (.goto 281, 3) := dk_167 1 25 (dk_at dksX5_isName_3 1 rfl rfl)
theorem dX5_isName_228 : decode cX5_isName 228 = .ok (.aload_n 1, 1) := dk_43 (dk_at dksX5_isName_3 4 rfl rfl)
theorem dX5_isName_229 : decode cX5_isName 229 = .ok (.ldc 108, 2) := dk_18 108 (dk_at dksX5_isName_3 5 rfl rfl)
theorem dX5_isName_231 : decode cX5_isName 231 = .ok (.invokevirtual 80, 3) := dk_182 0 80 (dk_at dksX5_isName_3 7 rfl rfl)
theorem dX5_isName_234 : decode cX5_isName 234 = .ok (.ifCond .eq 272, 3) := dk_153 1 16 (dk_at dksX5_isName_3 10 rfl rfl)
theorem dX5_isName_237 : decode cX5_isName 237 = .ok (.iconst 2, 1) := dk_5 (dk_at dksX5_isName_3 13 rfl rfl)
theorem dX5_isName_238 : decode cX5_isName 238 = .ok (.istore_n 2, 1) := dk_61 (dk_at dksX5_isName_3 14 rfl rfl)
theorem dX5_isName_239 : decode cX5_isName 239 = .ok (.goto 267, 3) := dk_167 1 11 (dk_at dksX5_isName_3 15 rfl rfl)
theorem dX5_isName_242 : decode cX5_isName 242 = .ok (.aload_n 1, 1) := dk_43 (dk_at dksX5_isName_3 18 rfl rfl)
theorem dX5_isName_243 : decode cX5_isName 243 = .ok (.ldc 110, 2) := dk_18 110 (dk_at dksX5_isName_3 19 rfl rfl)
theorem dX5_isName_245 : decode cX5_isName 245 = .ok (.invokevirtual 80, 3) := dk_182 0 80 (dk_at dksX5_isName_3 21 rfl rfl)
theorem dX5_isName_248 : decode cX5_isName 248 = .ok (.ifCond .eq 258, 3) := dk_153 1 2 (dk_at dksX5_isName_4 0 rfl rfl)
theorem dX5_isName_251 : decode cX5_isName 251 = .ok (.iconst 3, 1) := dk_6 (dk_at dksX5_isName_4 3 rfl rfl)
theorem dX5_isName_252 : decode cX5_isName 252 = .ok (.istore_n 2, 1) := dk_61 (dk_at dksX5_isName_4 4 rfl rfl)
theorem dX5_isName_253 : decode cX5_isName 253 = .ok (.goto 253, 3) := dk_167 0 253 (dk_at dksX5_isName_4 5 rfl rfl)
theorem dX5_isName_256 : decode cX5_isName 256 = .ok (.aload_n 1, 1) := dk_43 (dk_at dksX5_isName_4 8 rfl rfl)
theorem dX5_isName_257 : decode cX5_isName 257 = .ok (.ldc 112, 2) := dk_18 112 (dk_at dksX5_isName_4 9 rfl rfl)
theorem dX5_isName_259 : decode cX5_isName 259 = .ok (.invokevirtual 80, 3) := dk_182 0 80 (dk_at dksX5_isName_4 11 rfl rfl)
theorem dX5_isName_262 : decode cX5_isName 262 = .ok (.ifCond .eq 244, 3) := dk_153 0 244 (dk_at dksX5_isName_4 14 rfl rfl)
theorem dX5_isName_265 : decode cX5_isName 265 = .ok (.iconst 4, 1) := dk_7 (dk_at dksX5_isName_4 17 rfl rfl)
theorem dX5_isName_266 : decode cX5_isName 266 = .ok (.istore_n 2, 1) := dk_61 (dk_at dksX5_isName_4 18 rfl rfl)
theorem dX5_isName_267 : decode cX5_isName 267 = .ok (.goto 239, 3) := dk_167 0 239 (dk_at dksX5_isName_4 19 rfl rfl)
theorem dX5_isName_270 : decode cX5_isName 270 = .ok (.aload_n 1, 1) := dk_43 (dk_at dksX5_isName_4 22 rfl rfl)
theorem dX5_isName_271 : decode cX5_isName 271 = .ok (.ldc 114, 2) := dk_18 114 (dk_at dksX5_isName_5 0 rfl rfl)
theorem dX5_isName_273 : decode cX5_isName 273 = .ok (.invokevirtual 80, 3) := dk_182 0 80 (dk_at dksX5_isName_5 2 rfl rfl)
theorem dX5_isName_276 : decode cX5_isName 276 = .ok (.ifCond .eq 230, 3) := dk_153 0 230 (dk_at dksX5_isName_5 5 rfl rfl)
theorem dX5_isName_279 : decode cX5_isName 279 = .ok (.iconst 5, 1) := dk_8 (dk_at dksX5_isName_5 8 rfl rfl)
theorem dX5_isName_280 : decode cX5_isName 280 = .ok (.istore_n 2, 1) := dk_61 (dk_at dksX5_isName_5 9 rfl rfl)
theorem dX5_isName_281 : decode cX5_isName 281 = .ok (.goto 225, 3) := dk_167 0 225 (dk_at dksX5_isName_5 10 rfl rfl)
theorem dX5_isName_284 : decode cX5_isName 284 = .ok (.aload_n 1, 1) := dk_43 (dk_at dksX5_isName_5 13 rfl rfl)
theorem dX5_isName_285 : decode cX5_isName 285 = .ok (.ldc 116, 2) := dk_18 116 (dk_at dksX5_isName_5 14 rfl rfl)
theorem dX5_isName_287 : decode cX5_isName 287 = .ok (.invokevirtual 80, 3) := dk_182 0 80 (dk_at dksX5_isName_5 16 rfl rfl)
theorem dX5_isName_290 : decode cX5_isName 290 = .ok (.ifCond .eq 216, 3) := dk_153 0 216 (dk_at dksX5_isName_5 19 rfl rfl)
theorem dX5_isName_293 : decode cX5_isName 293 = .ok (.bipush 6, 2) := dk_16 6 (dk_at dksX5_isName_5 22 rfl rfl)
theorem dX5_isName_295 : decode cX5_isName 295 = .ok (.istore_n 2, 1) := dk_61 (dk_at dksX5_isName_6 0 rfl rfl)
theorem dX5_isName_296 : decode cX5_isName 296 = .ok (.goto 210, 3) := dk_167 0 210 (dk_at dksX5_isName_6 1 rfl rfl)
theorem dX5_isName_299 : decode cX5_isName 299 = .ok (.aload_n 1, 1) := dk_43 (dk_at dksX5_isName_6 4 rfl rfl)
theorem dX5_isName_300 : decode cX5_isName 300 = .ok (.ldc 118, 2) := dk_18 118 (dk_at dksX5_isName_6 5 rfl rfl)
theorem dX5_isName_302 : decode cX5_isName 302 = .ok (.invokevirtual 80, 3) := dk_182 0 80 (dk_at dksX5_isName_6 7 rfl rfl)
theorem dX5_isName_305 : decode cX5_isName 305 = .ok (.ifCond .eq 201, 3) := dk_153 0 201 (dk_at dksX5_isName_6 10 rfl rfl)
theorem dX5_isName_308 : decode cX5_isName 308 = .ok (.bipush 7, 2) := dk_16 7 (dk_at dksX5_isName_6 13 rfl rfl)
theorem dX5_isName_310 : decode cX5_isName 310 = .ok (.istore_n 2, 1) := dk_61 (dk_at dksX5_isName_6 15 rfl rfl)
theorem dX5_isName_311 : decode cX5_isName 311 = .ok (.goto 195, 3) := dk_167 0 195 (dk_at dksX5_isName_6 16 rfl rfl)
theorem dX5_isName_314 : decode cX5_isName 314 = .ok (.aload_n 1, 1) := dk_43 (dk_at dksX5_isName_6 19 rfl rfl)
theorem dX5_isName_315 : decode cX5_isName 315 = .ok (.ldc 120, 2) := dk_18 120 (dk_at dksX5_isName_6 20 rfl rfl)
theorem dX5_isName_317 : decode cX5_isName 317 = .ok (.invokevirtual 80, 3) := dk_182 0 80 (dk_at dksX5_isName_7 0 rfl rfl)
theorem dX5_isName_320 : decode cX5_isName 320 = .ok (.ifCond .eq 186, 3) := dk_153 0 186 (dk_at dksX5_isName_7 3 rfl rfl)
theorem dX5_isName_323 : decode cX5_isName 323 = .ok (.bipush 8, 2) := dk_16 8 (dk_at dksX5_isName_7 6 rfl rfl)
theorem dX5_isName_325 : decode cX5_isName 325 = .ok (.istore_n 2, 1) := dk_61 (dk_at dksX5_isName_7 8 rfl rfl)
theorem dX5_isName_326 : decode cX5_isName 326 = .ok (.goto 180, 3) := dk_167 0 180 (dk_at dksX5_isName_7 9 rfl rfl)
theorem dX5_isName_329 : decode cX5_isName 329 = .ok (.aload_n 1, 1) := dk_43 (dk_at dksX5_isName_7 12 rfl rfl)
theorem dX5_isName_330 : decode cX5_isName 330 = .ok (.ldc 122, 2) := dk_18 122 (dk_at dksX5_isName_7 13 rfl rfl)
theorem dX5_isName_332 : decode cX5_isName 332 = .ok (.invokevirtual 80, 3) := dk_182 0 80 (dk_at dksX5_isName_7 15 rfl rfl)
theorem dX5_isName_335 : decode cX5_isName 335 = .ok (.ifCond .eq 171, 3) := dk_153 0 171 (dk_at dksX5_isName_7 18 rfl rfl)
theorem dX5_isName_338 : decode cX5_isName 338 = .ok (.bipush 9, 2) := dk_16 9 (dk_at dksX5_isName_7 21 rfl rfl)
theorem dX5_isName_340 : decode cX5_isName 340 = .ok (.istore_n 2, 1) := dk_61 (dk_at dksX5_isName_7 23 rfl rfl)
theorem dX5_isName_341 : decode cX5_isName 341 = .ok (.goto 165, 3) := dk_167 0 165 (dk_at dksX5_isName_8 0 rfl rfl)
theorem dX5_isName_344 : decode cX5_isName 344 = .ok (.aload_n 1, 1) := dk_43 (dk_at dksX5_isName_8 3 rfl rfl)
theorem dX5_isName_345 : decode cX5_isName 345 = .ok (.ldc 124, 2) := dk_18 124 (dk_at dksX5_isName_8 4 rfl rfl)
theorem dX5_isName_347 : decode cX5_isName 347 = .ok (.invokevirtual 80, 3) := dk_182 0 80 (dk_at dksX5_isName_8 6 rfl rfl)
theorem dX5_isName_350 : decode cX5_isName 350 = .ok (.ifCond .eq 156, 3) := dk_153 0 156 (dk_at dksX5_isName_8 9 rfl rfl)
theorem dX5_isName_353 : decode cX5_isName 353 = .ok (.bipush 10, 2) := dk_16 10 (dk_at dksX5_isName_8 12 rfl rfl)
theorem dX5_isName_355 : decode cX5_isName 355 = .ok (.istore_n 2, 1) := dk_61 (dk_at dksX5_isName_8 14 rfl rfl)
theorem dX5_isName_356 : decode cX5_isName 356 = .ok (.goto 150, 3) := dk_167 0 150 (dk_at dksX5_isName_8 15 rfl rfl)
theorem dX5_isName_359 : decode cX5_isName 359 = .ok (.aload_n 1, 1) := dk_43 (dk_at dksX5_isName_8 18 rfl rfl)
theorem dX5_isName_360 : decode cX5_isName 360 = .ok (.ldc 126, 2) := dk_18 126 (dk_at dksX5_isName_8 19 rfl rfl)
theorem dX5_isName_362 : decode cX5_isName 362 = .ok (.invokevirtual 80, 3) := dk_182 0 80 (dk_at dksX5_isName_8 21 rfl rfl)
theorem dX5_isName_365 : decode cX5_isName 365 = .ok (.ifCond .eq 141, 3) := dk_153 0 141 (dk_at dksX5_isName_9 0 rfl rfl)
theorem dX5_isName_368 : decode cX5_isName 368 = .ok (.bipush 11, 2) := dk_16 11 (dk_at dksX5_isName_9 3 rfl rfl)
theorem dX5_isName_370 : decode cX5_isName 370 = .ok (.istore_n 2, 1) := dk_61 (dk_at dksX5_isName_9 5 rfl rfl)
theorem dX5_isName_371 : decode cX5_isName 371 = .ok (.goto 135, 3) := dk_167 0 135 (dk_at dksX5_isName_9 6 rfl rfl)
theorem dX5_isName_374 : decode cX5_isName 374 = .ok (.aload_n 1, 1) := dk_43 (dk_at dksX5_isName_9 9 rfl rfl)
theorem dX5_isName_375 : decode cX5_isName 375 = .ok (.ldc 128, 2) := dk_18 128 (dk_at dksX5_isName_9 10 rfl rfl)
theorem dX5_isName_377 : decode cX5_isName 377 = .ok (.invokevirtual 80, 3) := dk_182 0 80 (dk_at dksX5_isName_9 12 rfl rfl)
theorem dX5_isName_380 : decode cX5_isName 380 = .ok (.ifCond .eq 126, 3) := dk_153 0 126 (dk_at dksX5_isName_9 15 rfl rfl)
theorem dX5_isName_383 : decode cX5_isName 383 = .ok (.bipush 12, 2) := dk_16 12 (dk_at dksX5_isName_9 18 rfl rfl)
theorem dX5_isName_385 : decode cX5_isName 385 = .ok (.istore_n 2, 1) := dk_61 (dk_at dksX5_isName_9 20 rfl rfl)
theorem dX5_isName_386 : decode cX5_isName 386 = .ok (.goto 120, 3) := dk_167 0 120 (dk_at dksX5_isName_9 21 rfl rfl)
theorem dX5_isName_389 : decode cX5_isName 389 = .ok (.aload_n 1, 1) := dk_43 (dk_at dksX5_isName_10 0 rfl rfl)
theorem dX5_isName_390 : decode cX5_isName 390 = .ok (.ldc 130, 2) := dk_18 130 (dk_at dksX5_isName_10 1 rfl rfl)
theorem dX5_isName_392 : decode cX5_isName 392 = .ok (.invokevirtual 80, 3) := dk_182 0 80 (dk_at dksX5_isName_10 3 rfl rfl)
theorem dX5_isName_395 : decode cX5_isName 395 = .ok (.ifCond .eq 111, 3) := dk_153 0 111 (dk_at dksX5_isName_10 6 rfl rfl)
theorem dX5_isName_398 : decode cX5_isName 398 = .ok (.bipush 13, 2) := dk_16 13 (dk_at dksX5_isName_10 9 rfl rfl)
theorem dX5_isName_400 : decode cX5_isName 400 = .ok (.istore_n 2, 1) := dk_61 (dk_at dksX5_isName_10 11 rfl rfl)
theorem dX5_isName_401 : decode cX5_isName 401 = .ok (.goto 105, 3) := dk_167 0 105 (dk_at dksX5_isName_10 12 rfl rfl)
theorem dX5_isName_404 : decode cX5_isName 404 = .ok (.aload_n 1, 1) := dk_43 (dk_at dksX5_isName_10 15 rfl rfl)
theorem dX5_isName_405 : decode cX5_isName 405 = .ok (.ldc 132, 2) := dk_18 132 (dk_at dksX5_isName_10 16 rfl rfl)
theorem dX5_isName_407 : decode cX5_isName 407 = .ok (.invokevirtual 80, 3) := dk_182 0 80 (dk_at dksX5_isName_10 18 rfl rfl)
theorem dX5_isName_410 : decode cX5_isName 410 = .ok (.ifCond .eq 96, 3) := dk_153 0 96 (dk_at dksX5_isName_10 21 rfl rfl)
theorem dX5_isName_413 : decode cX5_isName 413 = .ok (.bipush 14, 2) := dk_16 14 (dk_at dksX5_isName_11 0 rfl rfl)
theorem dX5_isName_415 : decode cX5_isName 415 = .ok (.istore_n 2, 1) := dk_61 (dk_at dksX5_isName_11 2 rfl rfl)
theorem dX5_isName_416 : decode cX5_isName 416 = .ok (.goto 90, 3) := dk_167 0 90 (dk_at dksX5_isName_11 3 rfl rfl)
theorem dX5_isName_419 : decode cX5_isName 419 = .ok (.aload_n 1, 1) := dk_43 (dk_at dksX5_isName_11 6 rfl rfl)
theorem dX5_isName_420 : decode cX5_isName 420 = .ok (.ldc 134, 2) := dk_18 134 (dk_at dksX5_isName_11 7 rfl rfl)
theorem dX5_isName_422 : decode cX5_isName 422 = .ok (.invokevirtual 80, 3) := dk_182 0 80 (dk_at dksX5_isName_11 9 rfl rfl)
theorem dX5_isName_425 : decode cX5_isName 425 = .ok (.ifCond .eq 81, 3) := dk_153 0 81 (dk_at dksX5_isName_11 12 rfl rfl)
theorem dX5_isName_428 : decode cX5_isName 428 = .ok (.bipush 15, 2) := dk_16 15 (dk_at dksX5_isName_11 15 rfl rfl)
theorem dX5_isName_430 : decode cX5_isName 430 = .ok (.istore_n 2, 1) := dk_61 (dk_at dksX5_isName_11 17 rfl rfl)
theorem dX5_isName_431 : decode cX5_isName 431 = .ok (.goto 75, 3) := dk_167 0 75 (dk_at dksX5_isName_11 18 rfl rfl)
theorem dX5_isName_434 : decode cX5_isName 434 = .ok (.aload_n 1, 1) := dk_43 (dk_at dksX5_isName_11 21 rfl rfl)
theorem dX5_isName_435 : decode cX5_isName 435 = .ok (.ldc 136, 2) := dk_18 136 (dk_at dksX5_isName_11 22 rfl rfl)
theorem dX5_isName_437 : decode cX5_isName 437 = .ok (.invokevirtual 80, 3) := dk_182 0 80 (dk_at dksX5_isName_12 0 rfl rfl)
theorem dX5_isName_440 : decode cX5_isName 440 = .ok (.ifCond .eq 66, 3) := dk_153 0 66 (dk_at dksX5_isName_12 3 rfl rfl)
theorem dX5_isName_443 : decode cX5_isName 443 = .ok (.bipush 16, 2) := dk_16 16 (dk_at dksX5_isName_12 6 rfl rfl)
theorem dX5_isName_445 : decode cX5_isName 445 = .ok (.istore_n 2, 1) := dk_61 (dk_at dksX5_isName_12 8 rfl rfl)
theorem dX5_isName_446 : decode cX5_isName 446 = .ok (.goto 60, 3) := dk_167 0 60 (dk_at dksX5_isName_12 9 rfl rfl)
theorem dX5_isName_449 : decode cX5_isName 449 = .ok (.aload_n 1, 1) := dk_43 (dk_at dksX5_isName_12 12 rfl rfl)
theorem dX5_isName_450 : decode cX5_isName 450 = .ok (.ldc 138, 2) := dk_18 138 (dk_at dksX5_isName_12 13 rfl rfl)
theorem dX5_isName_452 : decode cX5_isName 452 = .ok (.invokevirtual 80, 3) := dk_182 0 80 (dk_at dksX5_isName_12 15 rfl rfl)
theorem dX5_isName_455 : decode cX5_isName 455 = .ok (.ifCond .eq 51, 3) := dk_153 0 51 (dk_at dksX5_isName_12 18 rfl rfl)
theorem dX5_isName_458 : decode cX5_isName 458 = .ok (.bipush 17, 2) := dk_16 17 (dk_at dksX5_isName_12 21 rfl rfl)
theorem dX5_isName_460 : decode cX5_isName 460 = .ok (.istore_n 2, 1) := dk_61 (dk_at dksX5_isName_12 23 rfl rfl)
theorem dX5_isName_461 : decode cX5_isName 461 = .ok (.goto 45, 3) := dk_167 0 45 (dk_at dksX5_isName_13 0 rfl rfl)
theorem dX5_isName_464 : decode cX5_isName 464 = .ok (.aload_n 1, 1) := dk_43 (dk_at dksX5_isName_13 3 rfl rfl)
theorem dX5_isName_465 : decode cX5_isName 465 = .ok (.ldc 140, 2) := dk_18 140 (dk_at dksX5_isName_13 4 rfl rfl)
theorem dX5_isName_467 : decode cX5_isName 467 = .ok (.invokevirtual 80, 3) := dk_182 0 80 (dk_at dksX5_isName_13 6 rfl rfl)
theorem dX5_isName_470 : decode cX5_isName 470 = .ok (.ifCond .eq 36, 3) := dk_153 0 36 (dk_at dksX5_isName_13 9 rfl rfl)
theorem dX5_isName_473 : decode cX5_isName 473 = .ok (.bipush 18, 2) := dk_16 18 (dk_at dksX5_isName_13 12 rfl rfl)
theorem dX5_isName_475 : decode cX5_isName 475 = .ok (.istore_n 2, 1) := dk_61 (dk_at dksX5_isName_13 14 rfl rfl)
theorem dX5_isName_476 : decode cX5_isName 476 = .ok (.goto 30, 3) := dk_167 0 30 (dk_at dksX5_isName_13 15 rfl rfl)
theorem dX5_isName_479 : decode cX5_isName 479 = .ok (.aload_n 1, 1) := dk_43 (dk_at dksX5_isName_13 18 rfl rfl)
theorem dX5_isName_480 : decode cX5_isName 480 = .ok (.ldc 142, 2) := dk_18 142 (dk_at dksX5_isName_13 19 rfl rfl)
theorem dX5_isName_482 : decode cX5_isName 482 = .ok (.invokevirtual 80, 3) := dk_182 0 80 (dk_at dksX5_isName_13 21 rfl rfl)
theorem dX5_isName_485 : decode cX5_isName 485 = .ok (.ifCond .eq 21, 3) := dk_153 0 21 (dk_at dksX5_isName_14 0 rfl rfl)
theorem dX5_isName_488 : decode cX5_isName 488 = .ok (.bipush 19, 2) := dk_16 19 (dk_at dksX5_isName_14 3 rfl rfl)
theorem dX5_isName_490 : decode cX5_isName 490 = .ok (.istore_n 2, 1) := dk_61 (dk_at dksX5_isName_14 5 rfl rfl)
theorem dX5_isName_491 : decode cX5_isName 491 = .ok (.goto 15, 3) := dk_167 0 15 (dk_at dksX5_isName_14 6 rfl rfl)
theorem dX5_isName_494 : decode cX5_isName 494 = .ok (.aload_n 1, 1) := dk_43 (dk_at dksX5_isName_14 9 rfl rfl)
theorem dX5_isName_495 : decode cX5_isName 495 = .ok (.ldc 144, 2) := dk_18 144 (dk_at dksX5_isName_14 10 rfl rfl)
theorem dX5_isName_497 : decode cX5_isName 497 = .ok (.invokevirtual 80, 3) := dk_182 0 80 (dk_at dksX5_isName_14 12 rfl rfl)
theorem dX5_isName_500 : decode cX5_isName 500 = .ok (.ifCond .eq 6, 3) := dk_153 0 6 (dk_at dksX5_isName_14 15 rfl rfl)
theorem dX5_isName_503 : decode cX5_isName 503 = .ok (.bipush 20, 2) := dk_16 20 (dk_at dksX5_isName_14 18 rfl rfl)
theorem dX5_isName_505 : decode cX5_isName 505 = .ok (.istore_n 2, 1) := dk_61 (dk_at dksX5_isName_14 20 rfl rfl)
theorem dX5_isName_506 : decode cX5_isName 506 = .ok (.iload_n 2, 1) := dk_28 (dk_at dksX5_isName_14 21 rfl rfl)
theorem dX5_isName_507 : decode cX5_isName 507 = .ok (.tableswitch 99 0 20 #[97, 97, 97, 97, 97, 97, 97, 97, 97, 97, 97, 97, 97, 97, 97, 97, 97, 97, 97, 97, 97], 97) := by decide +kernel
theorem dX5_isName_604 : decode cX5_isName 604 = .ok (.iconst 0, 1) := dk_3 (dk_at dksX5_isName_16 0 rfl rfl)
theorem dX5_isName_605 : decode cX5_isName 605 = .ok (.ireturn, 1) := dk_172 (dk_at dksX5_isName_16 1 rfl rfl)
theorem dX5_isName_606 : decode cX5_isName 606 = .ok (.iconst 1, 1) := dk_4 (dk_at dksX5_isName_16 2 rfl rfl)
theorem dX5_isName_607 : decode cX5_isName 607 = .ok (.ireturn, 1) := dk_172 (dk_at dksX5_isName_16 3 rfl rfl)
abbrev cX5_wrong : ByteArray := prog_17_method_7_code
def yX5_wrong : MethodName := ⟨RX5, "wrong", "()LWeatherWages$Wrong;"⟩
def dkwX5_wrong_1 : List UInt8 := [176]
abbrev dktX5_wrong_1 : List UInt8 := dkwX5_wrong_1 ++ []
def dkwX5_wrong_0 : List UInt8 := [187, 0, 75, 89, 42, 180, 0, 46, 6, 160, 0, 7, 4, 167, 0, 4, 5, 42, 180, 0, 43, 183, 0, 77]
abbrev dktX5_wrong_0 : List UInt8 := dkwX5_wrong_0 ++ dktX5_wrong_1
theorem dksX5_wrong_0 : cX5_wrong.data.toList.drop 0 = dktX5_wrong_0 := by decide +kernel
theorem dksX5_wrong_1 : cX5_wrong.data.toList.drop 24 = dktX5_wrong_1 := dk_seg dksX5_wrong_0 24 rfl rfl
theorem dX5_wrong_0 : decode cX5_wrong 0 = .ok (.new 75, 3) := dk_187 0 75 (dk_at dksX5_wrong_0 0 rfl rfl)
theorem dX5_wrong_3 : decode cX5_wrong 3 = .ok (.dup, 1) := dk_89 (dk_at dksX5_wrong_0 3 rfl rfl)
theorem dX5_wrong_4 : decode cX5_wrong 4 = .ok (.aload_n 0, 1) := dk_42 (dk_at dksX5_wrong_0 4 rfl rfl)
theorem dX5_wrong_5 : decode cX5_wrong 5 = .ok (.getfield 46, 3) := dk_180 0 46 (dk_at dksX5_wrong_0 5 rfl rfl)
theorem dX5_wrong_8 : decode cX5_wrong 8 = .ok (.iconst 3, 1) := dk_6 (dk_at dksX5_wrong_0 8 rfl rfl)
theorem dX5_wrong_9 : decode cX5_wrong 9 = .ok (.if_icmp .ne 7, 3) := dk_160 0 7 (dk_at dksX5_wrong_0 9 rfl rfl)
theorem dX5_wrong_12 : decode cX5_wrong 12 = .ok (.iconst 1, 1) := dk_4 (dk_at dksX5_wrong_0 12 rfl rfl)
theorem dX5_wrong_13 : decode cX5_wrong 13 = .ok (.goto 4, 3) := dk_167 0 4 (dk_at dksX5_wrong_0 13 rfl rfl)
theorem dX5_wrong_16 : decode cX5_wrong 16 = .ok (.iconst 2, 1) := dk_5 (dk_at dksX5_wrong_0 16 rfl rfl)
theorem dX5_wrong_17 : decode cX5_wrong 17 = .ok (.aload_n 0, 1) := dk_42 (dk_at dksX5_wrong_0 17 rfl rfl)
theorem dX5_wrong_18 : decode cX5_wrong 18 = .ok (.getfield 43, 3) := dk_180 0 43 (dk_at dksX5_wrong_0 18 rfl rfl)
theorem dX5_wrong_21 : decode cX5_wrong 21 = .ok (.invokespecial 77, 3) := dk_183 0 77 (dk_at dksX5_wrong_0 21 rfl rfl)
theorem dX5_wrong_24 : decode cX5_wrong 24 = .ok (.areturn, 1) := dk_176 (dk_at dksX5_wrong_1 0 rfl rfl)
abbrev cX5_man : ByteArray := prog_17_method_20_code
def yX5_man : MethodName := ⟨RX5, "man", "()V"⟩
def dkwX5_man_2 : List UInt8 := [18, 110, 182, 0, 93, 181, 0, 230, 42, 180, 0, 24, 180, 0, 150, 43, 182, 0, 216, 87, 177]
abbrev dktX5_man_2 : List UInt8 := dkwX5_man_2 ++ []
def dkwX5_man_1 : List UInt8 := [183, 0, 219, 76, 42, 18, 108, 182, 0, 222, 43, 42, 3, 16, 99, 182, 0, 225, 181, 0, 228, 43, 42]
abbrev dktX5_man_1 : List UInt8 := dkwX5_man_1 ++ dktX5_man_2
def dkwX5_man_0 : List UInt8 := [42, 182, 0, 90, 187, 0, 166, 89, 42, 42, 180, 0, 24, 42, 180, 0, 17, 182, 0, 154, 182, 0, 212]
abbrev dktX5_man_0 : List UInt8 := dkwX5_man_0 ++ dktX5_man_1
theorem dksX5_man_0 : cX5_man.data.toList.drop 0 = dktX5_man_0 := by decide +kernel
theorem dksX5_man_1 : cX5_man.data.toList.drop 23 = dktX5_man_1 := dk_seg dksX5_man_0 23 rfl rfl
theorem dksX5_man_2 : cX5_man.data.toList.drop 46 = dktX5_man_2 := dk_seg dksX5_man_1 23 rfl rfl
theorem dX5_man_0 : decode cX5_man 0 = .ok (.aload_n 0, 1) := dk_42 (dk_at dksX5_man_0 0 rfl rfl)
theorem dX5_man_1 : decode cX5_man 1 = .ok (.invokevirtual 90, 3) := dk_182 0 90 (dk_at dksX5_man_0 1 rfl rfl)
theorem dX5_man_4 : decode cX5_man 4 = .ok (.new 166, 3) := dk_187 0 166 (dk_at dksX5_man_0 4 rfl rfl)
theorem dX5_man_7 : decode cX5_man 7 = .ok (.dup, 1) := dk_89 (dk_at dksX5_man_0 7 rfl rfl)
theorem dX5_man_8 : decode cX5_man 8 = .ok (.aload_n 0, 1) := dk_42 (dk_at dksX5_man_0 8 rfl rfl)
theorem dX5_man_9 : decode cX5_man 9 = .ok (.aload_n 0, 1) := dk_42 (dk_at dksX5_man_0 9 rfl rfl)
theorem dX5_man_10 : decode cX5_man 10 = .ok (.getfield 24, 3) := dk_180 0 24 (dk_at dksX5_man_0 10 rfl rfl)
theorem dX5_man_13 : decode cX5_man 13 = .ok (.aload_n 0, 1) := dk_42 (dk_at dksX5_man_0 13 rfl rfl)
theorem dX5_man_14 : decode cX5_man 14 = .ok (.getfield 17, 3) := dk_180 0 17 (dk_at dksX5_man_0 14 rfl rfl)
theorem dX5_man_17 : decode cX5_man 17 = .ok (.invokevirtual 154, 3) := dk_182 0 154 (dk_at dksX5_man_0 17 rfl rfl)
theorem dX5_man_20 : decode cX5_man 20 = .ok (.invokevirtual 212, 3) := dk_182 0 212 (dk_at dksX5_man_0 20 rfl rfl)
theorem dX5_man_23 : decode cX5_man 23 = .ok (.invokespecial 219, 3) := dk_183 0 219 (dk_at dksX5_man_1 0 rfl rfl)
theorem dX5_man_26 : decode cX5_man 26 = .ok (.astore_n 1, 1) := dk_76 (dk_at dksX5_man_1 3 rfl rfl)
theorem dX5_man_27 : decode cX5_man 27 = .ok (.aload_n 0, 1) := dk_42 (dk_at dksX5_man_1 4 rfl rfl)
theorem dX5_man_28 : decode cX5_man 28 = .ok (.ldc 108, 2) := dk_18 108 (dk_at dksX5_man_1 5 rfl rfl)
theorem dX5_man_30 : decode cX5_man 30 = .ok (.invokevirtual 222, 3) := dk_182 0 222 (dk_at dksX5_man_1 7 rfl rfl)
theorem dX5_man_33 : decode cX5_man 33 = .ok (.aload_n 1, 1) := dk_43 (dk_at dksX5_man_1 10 rfl rfl)
theorem dX5_man_34 : decode cX5_man 34 = .ok (.aload_n 0, 1) := dk_42 (dk_at dksX5_man_1 11 rfl rfl)
theorem dX5_man_35 : decode cX5_man 35 = .ok (.iconst 0, 1) := dk_3 (dk_at dksX5_man_1 12 rfl rfl)
theorem dX5_man_36 : decode cX5_man 36 = .ok (.bipush 99, 2) := dk_16 99 (dk_at dksX5_man_1 13 rfl rfl)
theorem dX5_man_38 : decode cX5_man 38 = .ok (.invokevirtual 225, 3) := dk_182 0 225 (dk_at dksX5_man_1 15 rfl rfl)
theorem dX5_man_41 : decode cX5_man 41 = .ok (.putfield 228, 3) := dk_181 0 228 (dk_at dksX5_man_1 18 rfl rfl)
theorem dX5_man_44 : decode cX5_man 44 = .ok (.aload_n 1, 1) := dk_43 (dk_at dksX5_man_1 21 rfl rfl)
theorem dX5_man_45 : decode cX5_man 45 = .ok (.aload_n 0, 1) := dk_42 (dk_at dksX5_man_1 22 rfl rfl)
theorem dX5_man_46 : decode cX5_man 46 = .ok (.ldc 110, 2) := dk_18 110 (dk_at dksX5_man_2 0 rfl rfl)
theorem dX5_man_48 : decode cX5_man 48 = .ok (.invokevirtual 93, 3) := dk_182 0 93 (dk_at dksX5_man_2 2 rfl rfl)
theorem dX5_man_51 : decode cX5_man 51 = .ok (.putfield 230, 3) := dk_181 0 230 (dk_at dksX5_man_2 5 rfl rfl)
theorem dX5_man_54 : decode cX5_man 54 = .ok (.aload_n 0, 1) := dk_42 (dk_at dksX5_man_2 8 rfl rfl)
theorem dX5_man_55 : decode cX5_man 55 = .ok (.getfield 24, 3) := dk_180 0 24 (dk_at dksX5_man_2 9 rfl rfl)
theorem dX5_man_58 : decode cX5_man 58 = .ok (.getfield 150, 3) := dk_180 0 150 (dk_at dksX5_man_2 12 rfl rfl)
theorem dX5_man_61 : decode cX5_man 61 = .ok (.aload_n 1, 1) := dk_43 (dk_at dksX5_man_2 15 rfl rfl)
theorem dX5_man_62 : decode cX5_man 62 = .ok (.invokevirtual 216, 3) := dk_182 0 216 (dk_at dksX5_man_2 16 rfl rfl)
theorem dX5_man_65 : decode cX5_man 65 = .ok (.pop, 1) := dk_87 (dk_at dksX5_man_2 19 rfl rfl)
theorem dX5_man_66 : decode cX5_man 66 = .ok (.return_, 1) := dk_177 (dk_at dksX5_man_2 20 rfl rfl)
abbrev cX5_key : ByteArray := prog_17_method_10_code
def yX5_key : MethodName := ⟨RX5, "key", "(Ljava/lang/String;)V"⟩
def dkwX5_key_0 : List UInt8 := [42, 43, 182, 0, 93, 154, 0, 8, 42, 182, 0, 96, 191, 177]
abbrev dktX5_key_0 : List UInt8 := dkwX5_key_0 ++ []
theorem dksX5_key_0 : cX5_key.data.toList.drop 0 = dktX5_key_0 := by decide +kernel
theorem dX5_key_0 : decode cX5_key 0 = .ok (.aload_n 0, 1) := dk_42 (dk_at dksX5_key_0 0 rfl rfl)
theorem dX5_key_1 : decode cX5_key 1 = .ok (.aload_n 1, 1) := dk_43 (dk_at dksX5_key_0 1 rfl rfl)
theorem dX5_key_2 : decode cX5_key 2 = .ok (.invokevirtual 93, 3) := dk_182 0 93 (dk_at dksX5_key_0 2 rfl rfl)
theorem dX5_key_5 : decode cX5_key 5 = .ok (.ifCond .ne 8, 3) := dk_154 0 8 (dk_at dksX5_key_0 5 rfl rfl)
theorem dX5_key_8 : decode cX5_key 8 = .ok (.aload_n 0, 1) := dk_42 (dk_at dksX5_key_0 8 rfl rfl)
theorem dX5_key_9 : decode cX5_key 9 = .ok (.invokevirtual 96, 3) := dk_182 0 96 (dk_at dksX5_key_0 9 rfl rfl)
theorem dX5_key_12 : decode cX5_key 12 = .ok (.athrow, 1) := dk_191 (dk_at dksX5_key_0 12 rfl rfl)
theorem dX5_key_13 : decode cX5_key 13 = .ok (.return_, 1) := dk_177 (dk_at dksX5_key_0 13 rfl rfl)
abbrev cX5_takes : ByteArray := prog_17_method_9_code
def yX5_takes : MethodName := ⟨RX5, "takes", "(Ljava/lang/String;)Z"⟩
def dkwX5_takes_0 : List UInt8 := [42, 43, 182, 0, 86, 61, 28, 153, 0, 7, 42, 182, 0, 90, 28, 172]
abbrev dktX5_takes_0 : List UInt8 := dkwX5_takes_0 ++ []
theorem dksX5_takes_0 : cX5_takes.data.toList.drop 0 = dktX5_takes_0 := by decide +kernel
theorem dX5_takes_0 : decode cX5_takes 0 = .ok (.aload_n 0, 1) := dk_42 (dk_at dksX5_takes_0 0 rfl rfl)
theorem dX5_takes_1 : decode cX5_takes 1 = .ok (.aload_n 1, 1) := dk_43 (dk_at dksX5_takes_0 1 rfl rfl)
theorem dX5_takes_2 : decode cX5_takes 2 = .ok (.invokevirtual 86, 3) := dk_182 0 86 (dk_at dksX5_takes_0 2 rfl rfl)
theorem dX5_takes_5 : decode cX5_takes 5 = .ok (.istore_n 2, 1) := dk_61 (dk_at dksX5_takes_0 5 rfl rfl)
theorem dX5_takes_6 : decode cX5_takes 6 = .ok (.iload_n 2, 1) := dk_28 (dk_at dksX5_takes_0 6 rfl rfl)
theorem dX5_takes_7 : decode cX5_takes 7 = .ok (.ifCond .eq 7, 3) := dk_153 0 7 (dk_at dksX5_takes_0 7 rfl rfl)
theorem dX5_takes_10 : decode cX5_takes 10 = .ok (.aload_n 0, 1) := dk_42 (dk_at dksX5_takes_0 10 rfl rfl)
theorem dX5_takes_11 : decode cX5_takes 11 = .ok (.invokevirtual 90, 3) := dk_182 0 90 (dk_at dksX5_takes_0 11 rfl rfl)
theorem dX5_takes_14 : decode cX5_takes 14 = .ok (.iload_n 2, 1) := dk_28 (dk_at dksX5_takes_0 14 rfl rfl)
theorem dX5_takes_15 : decode cX5_takes 15 = .ok (.ireturn, 1) := dk_172 (dk_at dksX5_takes_0 15 rfl rfl)
abbrev cX5_number : ByteArray := prog_17_method_11_code
def yX5_number : MethodName := ⟨RX5, "number", "(II)I"⟩
def dkwX5_number_2 : List UInt8 := [62, 42, 182, 0, 90, 29, 172]
abbrev dktX5_number_2 : List UInt8 := dkwX5_number_2 ++ []
def dkwX5_number_1 : List UInt8 := [180, 0, 69, 28, 164, 0, 16, 187, 0, 75, 89, 7, 42, 180, 0, 43, 183, 0, 77, 191, 42, 180, 0, 69]
abbrev dktX5_number_1 : List UInt8 := dkwX5_number_1 ++ dktX5_number_2
def dkwX5_number_0 : List UInt8 := [42, 180, 0, 46, 5, 159, 0, 8, 42, 182, 0, 96, 191, 42, 180, 0, 69, 27, 161, 0, 11, 42]
abbrev dktX5_number_0 : List UInt8 := dkwX5_number_0 ++ dktX5_number_1
theorem dksX5_number_0 : cX5_number.data.toList.drop 0 = dktX5_number_0 := by decide +kernel
theorem dksX5_number_1 : cX5_number.data.toList.drop 22 = dktX5_number_1 := dk_seg dksX5_number_0 22 rfl rfl
theorem dksX5_number_2 : cX5_number.data.toList.drop 46 = dktX5_number_2 := dk_seg dksX5_number_1 24 rfl rfl
theorem dX5_number_0 : decode cX5_number 0 = .ok (.aload_n 0, 1) := dk_42 (dk_at dksX5_number_0 0 rfl rfl)
theorem dX5_number_1 : decode cX5_number 1 = .ok (.getfield 46, 3) := dk_180 0 46 (dk_at dksX5_number_0 1 rfl rfl)
theorem dX5_number_4 : decode cX5_number 4 = .ok (.iconst 2, 1) := dk_5 (dk_at dksX5_number_0 4 rfl rfl)
theorem dX5_number_5 : decode cX5_number 5 = .ok (.if_icmp .eq 8, 3) := dk_159 0 8 (dk_at dksX5_number_0 5 rfl rfl)
theorem dX5_number_8 : decode cX5_number 8 = .ok (.aload_n 0, 1) := dk_42 (dk_at dksX5_number_0 8 rfl rfl)
theorem dX5_number_9 : decode cX5_number 9 = .ok (.invokevirtual 96, 3) := dk_182 0 96 (dk_at dksX5_number_0 9 rfl rfl)
theorem dX5_number_12 : decode cX5_number 12 = .ok (.athrow, 1) := dk_191 (dk_at dksX5_number_0 12 rfl rfl)
theorem dX5_number_13 : decode cX5_number 13 = .ok (.aload_n 0, 1) := dk_42 (dk_at dksX5_number_0 13 rfl rfl)
theorem dX5_number_14 : decode cX5_number 14 = .ok (.getfield 69, 3) := dk_180 0 69 (dk_at dksX5_number_0 14 rfl rfl)
theorem dX5_number_17 : decode cX5_number 17 = .ok (.iload_n 1, 1) := dk_27 (dk_at dksX5_number_0 17 rfl rfl)
theorem dX5_number_18 : decode cX5_number 18 = .ok (.if_icmp .lt 11, 3) := dk_161 0 11 (dk_at dksX5_number_0 18 rfl rfl)
theorem dX5_number_21 : decode cX5_number 21 = .ok (.aload_n 0, 1) := dk_42 (dk_at dksX5_number_0 21 rfl rfl)
theorem dX5_number_22 : decode cX5_number 22 = .ok (.getfield 69, 3) := dk_180 0 69 (dk_at dksX5_number_1 0 rfl rfl)
theorem dX5_number_25 : decode cX5_number 25 = .ok (.iload_n 2, 1) := dk_28 (dk_at dksX5_number_1 3 rfl rfl)
theorem dX5_number_26 : decode cX5_number 26 = .ok (.if_icmp .le 16, 3) := dk_164 0 16 (dk_at dksX5_number_1 4 rfl rfl)
theorem dX5_number_29 : decode cX5_number 29 = .ok (.new 75, 3) := dk_187 0 75 (dk_at dksX5_number_1 7 rfl rfl)
theorem dX5_number_32 : decode cX5_number 32 = .ok (.dup, 1) := dk_89 (dk_at dksX5_number_1 10 rfl rfl)
theorem dX5_number_33 : decode cX5_number 33 = .ok (.iconst 4, 1) := dk_7 (dk_at dksX5_number_1 11 rfl rfl)
theorem dX5_number_34 : decode cX5_number 34 = .ok (.aload_n 0, 1) := dk_42 (dk_at dksX5_number_1 12 rfl rfl)
theorem dX5_number_35 : decode cX5_number 35 = .ok (.getfield 43, 3) := dk_180 0 43 (dk_at dksX5_number_1 13 rfl rfl)
theorem dX5_number_38 : decode cX5_number 38 = .ok (.invokespecial 77, 3) := dk_183 0 77 (dk_at dksX5_number_1 16 rfl rfl)
theorem dX5_number_41 : decode cX5_number 41 = .ok (.athrow, 1) := dk_191 (dk_at dksX5_number_1 19 rfl rfl)
theorem dX5_number_42 : decode cX5_number 42 = .ok (.aload_n 0, 1) := dk_42 (dk_at dksX5_number_1 20 rfl rfl)
theorem dX5_number_43 : decode cX5_number 43 = .ok (.getfield 69, 3) := dk_180 0 69 (dk_at dksX5_number_1 21 rfl rfl)
theorem dX5_number_46 : decode cX5_number 46 = .ok (.istore_n 3, 1) := dk_62 (dk_at dksX5_number_2 0 rfl rfl)
theorem dX5_number_47 : decode cX5_number 47 = .ok (.aload_n 0, 1) := dk_42 (dk_at dksX5_number_2 1 rfl rfl)
theorem dX5_number_48 : decode cX5_number 48 = .ok (.invokevirtual 90, 3) := dk_182 0 90 (dk_at dksX5_number_2 2 rfl rfl)
theorem dX5_number_51 : decode cX5_number 51 = .ok (.iload_n 3, 1) := dk_29 (dk_at dksX5_number_2 5 rfl rfl)
theorem dX5_number_52 : decode cX5_number 52 = .ok (.ireturn, 1) := dk_172 (dk_at dksX5_number_2 6 rfl rfl)
abbrev cX5_purse : ByteArray := prog_17_method_22_code
def yX5_purse : MethodName := ⟨RX5, "purse", "()V"⟩
def dkwX5_purse_2 : List UInt8 := [177]
abbrev dktX5_purse_2 : List UInt8 := dkwX5_purse_2 ++ []
def dkwX5_purse_1 : List UInt8 := [180, 0, 246, 28, 42, 3, 16, 60, 182, 0, 225, 79, 43, 89, 180, 0, 240, 4, 28, 120, 128, 181, 0, 240]
abbrev dktX5_purse_1 : List UInt8 := dkwX5_purse_1 ++ dktX5_purse_2
def dkwX5_purse_0 : List UInt8 := [42, 182, 0, 90, 42, 182, 0, 236, 76, 42, 182, 0, 90, 42, 43, 180, 0, 240, 182, 0, 243, 61, 43]
abbrev dktX5_purse_0 : List UInt8 := dkwX5_purse_0 ++ dktX5_purse_1
theorem dksX5_purse_0 : cX5_purse.data.toList.drop 0 = dktX5_purse_0 := by decide +kernel
theorem dksX5_purse_1 : cX5_purse.data.toList.drop 23 = dktX5_purse_1 := dk_seg dksX5_purse_0 23 rfl rfl
theorem dksX5_purse_2 : cX5_purse.data.toList.drop 47 = dktX5_purse_2 := dk_seg dksX5_purse_1 24 rfl rfl
theorem dX5_purse_0 : decode cX5_purse 0 = .ok (.aload_n 0, 1) := dk_42 (dk_at dksX5_purse_0 0 rfl rfl)
theorem dX5_purse_1 : decode cX5_purse 1 = .ok (.invokevirtual 90, 3) := dk_182 0 90 (dk_at dksX5_purse_0 1 rfl rfl)
theorem dX5_purse_4 : decode cX5_purse 4 = .ok (.aload_n 0, 1) := dk_42 (dk_at dksX5_purse_0 4 rfl rfl)
theorem dX5_purse_5 : decode cX5_purse 5 = .ok (.invokevirtual 236, 3) := dk_182 0 236 (dk_at dksX5_purse_0 5 rfl rfl)
theorem dX5_purse_8 : decode cX5_purse 8 = .ok (.astore_n 1, 1) := dk_76 (dk_at dksX5_purse_0 8 rfl rfl)
theorem dX5_purse_9 : decode cX5_purse 9 = .ok (.aload_n 0, 1) := dk_42 (dk_at dksX5_purse_0 9 rfl rfl)
theorem dX5_purse_10 : decode cX5_purse 10 = .ok (.invokevirtual 90, 3) := dk_182 0 90 (dk_at dksX5_purse_0 10 rfl rfl)
theorem dX5_purse_13 : decode cX5_purse 13 = .ok (.aload_n 0, 1) := dk_42 (dk_at dksX5_purse_0 13 rfl rfl)
theorem dX5_purse_14 : decode cX5_purse 14 = .ok (.aload_n 1, 1) := dk_43 (dk_at dksX5_purse_0 14 rfl rfl)
theorem dX5_purse_15 : decode cX5_purse 15 = .ok (.getfield 240, 3) := dk_180 0 240 (dk_at dksX5_purse_0 15 rfl rfl)
theorem dX5_purse_18 : decode cX5_purse 18 = .ok (.invokevirtual 243, 3) := dk_182 0 243 (dk_at dksX5_purse_0 18 rfl rfl)
theorem dX5_purse_21 : decode cX5_purse 21 = .ok (.istore_n 2, 1) := dk_61 (dk_at dksX5_purse_0 21 rfl rfl)
theorem dX5_purse_22 : decode cX5_purse 22 = .ok (.aload_n 1, 1) := dk_43 (dk_at dksX5_purse_0 22 rfl rfl)
theorem dX5_purse_23 : decode cX5_purse 23 = .ok (.getfield 246, 3) := dk_180 0 246 (dk_at dksX5_purse_1 0 rfl rfl)
theorem dX5_purse_26 : decode cX5_purse 26 = .ok (.iload_n 2, 1) := dk_28 (dk_at dksX5_purse_1 3 rfl rfl)
theorem dX5_purse_27 : decode cX5_purse 27 = .ok (.aload_n 0, 1) := dk_42 (dk_at dksX5_purse_1 4 rfl rfl)
theorem dX5_purse_28 : decode cX5_purse 28 = .ok (.iconst 0, 1) := dk_3 (dk_at dksX5_purse_1 5 rfl rfl)
theorem dX5_purse_29 : decode cX5_purse 29 = .ok (.bipush 60, 2) := dk_16 60 (dk_at dksX5_purse_1 6 rfl rfl)
theorem dX5_purse_31 : decode cX5_purse 31 = .ok (.invokevirtual 225, 3) := dk_182 0 225 (dk_at dksX5_purse_1 8 rfl rfl)
theorem dX5_purse_34 : decode cX5_purse 34 = .ok (.iastore, 1) := dk_79 (dk_at dksX5_purse_1 11 rfl rfl)
theorem dX5_purse_35 : decode cX5_purse 35 = .ok (.aload_n 1, 1) := dk_43 (dk_at dksX5_purse_1 12 rfl rfl)
theorem dX5_purse_36 : decode cX5_purse 36 = .ok (.dup, 1) := dk_89 (dk_at dksX5_purse_1 13 rfl rfl)
theorem dX5_purse_37 : decode cX5_purse 37 = .ok (.getfield 240, 3) := dk_180 0 240 (dk_at dksX5_purse_1 14 rfl rfl)
theorem dX5_purse_40 : decode cX5_purse 40 = .ok (.iconst 1, 1) := dk_4 (dk_at dksX5_purse_1 17 rfl rfl)
theorem dX5_purse_41 : decode cX5_purse 41 = .ok (.iload_n 2, 1) := dk_28 (dk_at dksX5_purse_1 18 rfl rfl)
theorem dX5_purse_42 : decode cX5_purse 42 = .ok (.ishl, 1) := dk_120 (dk_at dksX5_purse_1 19 rfl rfl)
theorem dX5_purse_43 : decode cX5_purse 43 = .ok (.ior, 1) := dk_128 (dk_at dksX5_purse_1 20 rfl rfl)
theorem dX5_purse_44 : decode cX5_purse 44 = .ok (.putfield 240, 3) := dk_181 0 240 (dk_at dksX5_purse_1 21 rfl rfl)
theorem dX5_purse_47 : decode cX5_purse 47 = .ok (.return_, 1) := dk_177 (dk_at dksX5_purse_2 0 rfl rfl)
abbrev cX5_oldMan : ByteArray := prog_17_method_15_code
def yX5_oldMan : MethodName := ⟨RX5, "oldMan", "()LWeatherWages$Man;"⟩
def dkwX5_oldMan_1 : List UInt8 := [182, 0, 154, 167, 0, 4, 2, 182, 0, 157, 182, 0, 160, 192, 0, 166, 176]
abbrev dktX5_oldMan_1 : List UInt8 := dkwX5_oldMan_1 ++ []
def dkwX5_oldMan_0 : List UInt8 := [42, 180, 0, 24, 180, 0, 150, 42, 42, 180, 0, 46, 4, 160, 0, 17, 42, 180, 0, 24, 42, 180, 0, 17]
abbrev dktX5_oldMan_0 : List UInt8 := dkwX5_oldMan_0 ++ dktX5_oldMan_1
theorem dksX5_oldMan_0 : cX5_oldMan.data.toList.drop 0 = dktX5_oldMan_0 := by decide +kernel
theorem dksX5_oldMan_1 : cX5_oldMan.data.toList.drop 24 = dktX5_oldMan_1 := dk_seg dksX5_oldMan_0 24 rfl rfl
theorem dX5_oldMan_0 : decode cX5_oldMan 0 = .ok (.aload_n 0, 1) := dk_42 (dk_at dksX5_oldMan_0 0 rfl rfl)
theorem dX5_oldMan_1 : decode cX5_oldMan 1 = .ok (.getfield 24, 3) := dk_180 0 24 (dk_at dksX5_oldMan_0 1 rfl rfl)
theorem dX5_oldMan_4 : decode cX5_oldMan 4 = .ok (.getfield 150, 3) := dk_180 0 150 (dk_at dksX5_oldMan_0 4 rfl rfl)
theorem dX5_oldMan_7 : decode cX5_oldMan 7 = .ok (.aload_n 0, 1) := dk_42 (dk_at dksX5_oldMan_0 7 rfl rfl)
theorem dX5_oldMan_8 : decode cX5_oldMan 8 = .ok (.aload_n 0, 1) := dk_42 (dk_at dksX5_oldMan_0 8 rfl rfl)
theorem dX5_oldMan_9 : decode cX5_oldMan 9 = .ok (.getfield 46, 3) := dk_180 0 46 (dk_at dksX5_oldMan_0 9 rfl rfl)
theorem dX5_oldMan_12 : decode cX5_oldMan 12 = .ok (.iconst 1, 1) := dk_4 (dk_at dksX5_oldMan_0 12 rfl rfl)
theorem dX5_oldMan_13 : decode cX5_oldMan 13 = .ok (.if_icmp .ne 17, 3) := dk_160 0 17 (dk_at dksX5_oldMan_0 13 rfl rfl)
theorem dX5_oldMan_16 : decode cX5_oldMan 16 = .ok (.aload_n 0, 1) := dk_42 (dk_at dksX5_oldMan_0 16 rfl rfl)
theorem dX5_oldMan_17 : decode cX5_oldMan 17 = .ok (.getfield 24, 3) := dk_180 0 24 (dk_at dksX5_oldMan_0 17 rfl rfl)
theorem dX5_oldMan_20 : decode cX5_oldMan 20 = .ok (.aload_n 0, 1) := dk_42 (dk_at dksX5_oldMan_0 20 rfl rfl)
theorem dX5_oldMan_21 : decode cX5_oldMan 21 = .ok (.getfield 17, 3) := dk_180 0 17 (dk_at dksX5_oldMan_0 21 rfl rfl)
theorem dX5_oldMan_24 : decode cX5_oldMan 24 = .ok (.invokevirtual 154, 3) := dk_182 0 154 (dk_at dksX5_oldMan_1 0 rfl rfl)
theorem dX5_oldMan_27 : decode cX5_oldMan 27 = .ok (.goto 4, 3) := dk_167 0 4 (dk_at dksX5_oldMan_1 3 rfl rfl)
theorem dX5_oldMan_30 : decode cX5_oldMan 30 = .ok (.iconst (-1), 1) := dk_2 (dk_at dksX5_oldMan_1 6 rfl rfl)
theorem dX5_oldMan_31 : decode cX5_oldMan 31 = .ok (.invokevirtual 157, 3) := dk_182 0 157 (dk_at dksX5_oldMan_1 7 rfl rfl)
theorem dX5_oldMan_34 : decode cX5_oldMan 34 = .ok (.invokevirtual 160, 3) := dk_182 0 160 (dk_at dksX5_oldMan_1 10 rfl rfl)
theorem dX5_oldMan_37 : decode cX5_oldMan 37 = .ok (.checkcast 166, 3) := dk_192 0 166 (dk_at dksX5_oldMan_1 13 rfl rfl)
theorem dX5_oldMan_40 : decode cX5_oldMan 40 = .ok (.areturn, 1) := dk_176 (dk_at dksX5_oldMan_1 16 rfl rfl)
abbrev cX5_old : ByteArray := prog_17_method_14_code
def yX5_old : MethodName := ⟨RX5, "old", "(I)I"⟩
def dkwX5_old_1 : List UInt8 := [180, 0, 43, 183, 0, 77, 191, 27, 172]
abbrev dktX5_old_1 : List UInt8 := dkwX5_old_1 ++ []
def dkwX5_old_0 : List UInt8 := [42, 182, 0, 146, 154, 0, 8, 42, 182, 0, 96, 191, 27, 156, 0, 16, 187, 0, 75, 89, 8, 42]
abbrev dktX5_old_0 : List UInt8 := dkwX5_old_0 ++ dktX5_old_1
theorem dksX5_old_0 : cX5_old.data.toList.drop 0 = dktX5_old_0 := by decide +kernel
theorem dksX5_old_1 : cX5_old.data.toList.drop 22 = dktX5_old_1 := dk_seg dksX5_old_0 22 rfl rfl
theorem dX5_old_0 : decode cX5_old 0 = .ok (.aload_n 0, 1) := dk_42 (dk_at dksX5_old_0 0 rfl rfl)
theorem dX5_old_1 : decode cX5_old 1 = .ok (.invokevirtual 146, 3) := dk_182 0 146 (dk_at dksX5_old_0 1 rfl rfl)
theorem dX5_old_4 : decode cX5_old 4 = .ok (.ifCond .ne 8, 3) := dk_154 0 8 (dk_at dksX5_old_0 4 rfl rfl)
theorem dX5_old_7 : decode cX5_old 7 = .ok (.aload_n 0, 1) := dk_42 (dk_at dksX5_old_0 7 rfl rfl)
theorem dX5_old_8 : decode cX5_old 8 = .ok (.invokevirtual 96, 3) := dk_182 0 96 (dk_at dksX5_old_0 8 rfl rfl)
theorem dX5_old_11 : decode cX5_old 11 = .ok (.athrow, 1) := dk_191 (dk_at dksX5_old_0 11 rfl rfl)
theorem dX5_old_12 : decode cX5_old 12 = .ok (.iload_n 1, 1) := dk_27 (dk_at dksX5_old_0 12 rfl rfl)
theorem dX5_old_13 : decode cX5_old 13 = .ok (.ifCond .ge 16, 3) := dk_156 0 16 (dk_at dksX5_old_0 13 rfl rfl)
theorem dX5_old_16 : decode cX5_old 16 = .ok (.new 75, 3) := dk_187 0 75 (dk_at dksX5_old_0 16 rfl rfl)
theorem dX5_old_19 : decode cX5_old 19 = .ok (.dup, 1) := dk_89 (dk_at dksX5_old_0 19 rfl rfl)
theorem dX5_old_20 : decode cX5_old 20 = .ok (.iconst 5, 1) := dk_8 (dk_at dksX5_old_0 20 rfl rfl)
theorem dX5_old_21 : decode cX5_old 21 = .ok (.aload_n 0, 1) := dk_42 (dk_at dksX5_old_0 21 rfl rfl)
theorem dX5_old_22 : decode cX5_old 22 = .ok (.getfield 43, 3) := dk_180 0 43 (dk_at dksX5_old_1 0 rfl rfl)
theorem dX5_old_25 : decode cX5_old 25 = .ok (.invokespecial 77, 3) := dk_183 0 77 (dk_at dksX5_old_1 3 rfl rfl)
theorem dX5_old_28 : decode cX5_old 28 = .ok (.athrow, 1) := dk_191 (dk_at dksX5_old_1 6 rfl rfl)
theorem dX5_old_29 : decode cX5_old 29 = .ok (.iload_n 1, 1) := dk_27 (dk_at dksX5_old_1 7 rfl rfl)
theorem dX5_old_30 : decode cX5_old 30 = .ok (.ireturn, 1) := dk_172 (dk_at dksX5_old_1 8 rfl rfl)
abbrev cX5_freshKind : ByteArray := prog_17_method_21_code
def yX5_freshKind : MethodName := ⟨RX5, "freshKind", "(I)I"⟩
def dkwX5_freshKind_1 : List UInt8 := [183, 0, 77, 191, 42, 182, 0, 90, 28, 172]
abbrev dktX5_freshKind_1 : List UInt8 := dkwX5_freshKind_1 ++ []
def dkwX5_freshKind_0 : List UInt8 := [42, 182, 0, 233, 61, 27, 28, 122, 4, 126, 4, 160, 0, 16, 187, 0, 75, 89, 6, 42, 180, 0, 43]
abbrev dktX5_freshKind_0 : List UInt8 := dkwX5_freshKind_0 ++ dktX5_freshKind_1
theorem dksX5_freshKind_0 : cX5_freshKind.data.toList.drop 0 = dktX5_freshKind_0 := by decide +kernel
theorem dksX5_freshKind_1 : cX5_freshKind.data.toList.drop 23 = dktX5_freshKind_1 := dk_seg dksX5_freshKind_0 23 rfl rfl
theorem dX5_freshKind_0 : decode cX5_freshKind 0 = .ok (.aload_n 0, 1) := dk_42 (dk_at dksX5_freshKind_0 0 rfl rfl)
theorem dX5_freshKind_1 : decode cX5_freshKind 1 = .ok (.invokevirtual 233, 3) := dk_182 0 233 (dk_at dksX5_freshKind_0 1 rfl rfl)
theorem dX5_freshKind_4 : decode cX5_freshKind 4 = .ok (.istore_n 2, 1) := dk_61 (dk_at dksX5_freshKind_0 4 rfl rfl)
theorem dX5_freshKind_5 : decode cX5_freshKind 5 = .ok (.iload_n 1, 1) := dk_27 (dk_at dksX5_freshKind_0 5 rfl rfl)
theorem dX5_freshKind_6 : decode cX5_freshKind 6 = .ok (.iload_n 2, 1) := dk_28 (dk_at dksX5_freshKind_0 6 rfl rfl)
theorem dX5_freshKind_7 : decode cX5_freshKind 7 = .ok (.ishr, 1) := dk_122 (dk_at dksX5_freshKind_0 7 rfl rfl)
theorem dX5_freshKind_8 : decode cX5_freshKind 8 = .ok (.iconst 1, 1) := dk_4 (dk_at dksX5_freshKind_0 8 rfl rfl)
theorem dX5_freshKind_9 : decode cX5_freshKind 9 = .ok (.iand, 1) := dk_126 (dk_at dksX5_freshKind_0 9 rfl rfl)
theorem dX5_freshKind_10 : decode cX5_freshKind 10 = .ok (.iconst 1, 1) := dk_4 (dk_at dksX5_freshKind_0 10 rfl rfl)
theorem dX5_freshKind_11 : decode cX5_freshKind 11 = .ok (.if_icmp .ne 16, 3) := dk_160 0 16 (dk_at dksX5_freshKind_0 11 rfl rfl)
theorem dX5_freshKind_14 : decode cX5_freshKind 14 = .ok (.new 75, 3) := dk_187 0 75 (dk_at dksX5_freshKind_0 14 rfl rfl)
theorem dX5_freshKind_17 : decode cX5_freshKind 17 = .ok (.dup, 1) := dk_89 (dk_at dksX5_freshKind_0 17 rfl rfl)
theorem dX5_freshKind_18 : decode cX5_freshKind 18 = .ok (.iconst 3, 1) := dk_6 (dk_at dksX5_freshKind_0 18 rfl rfl)
theorem dX5_freshKind_19 : decode cX5_freshKind 19 = .ok (.aload_n 0, 1) := dk_42 (dk_at dksX5_freshKind_0 19 rfl rfl)
theorem dX5_freshKind_20 : decode cX5_freshKind 20 = .ok (.getfield 43, 3) := dk_180 0 43 (dk_at dksX5_freshKind_0 20 rfl rfl)
theorem dX5_freshKind_23 : decode cX5_freshKind 23 = .ok (.invokespecial 77, 3) := dk_183 0 77 (dk_at dksX5_freshKind_1 0 rfl rfl)
theorem dX5_freshKind_26 : decode cX5_freshKind 26 = .ok (.athrow, 1) := dk_191 (dk_at dksX5_freshKind_1 3 rfl rfl)
theorem dX5_freshKind_27 : decode cX5_freshKind 27 = .ok (.aload_n 0, 1) := dk_42 (dk_at dksX5_freshKind_1 4 rfl rfl)
theorem dX5_freshKind_28 : decode cX5_freshKind 28 = .ok (.invokevirtual 90, 3) := dk_182 0 90 (dk_at dksX5_freshKind_1 5 rfl rfl)
theorem dX5_freshKind_31 : decode cX5_freshKind 31 = .ok (.iload_n 2, 1) := dk_28 (dk_at dksX5_freshKind_1 8 rfl rfl)
theorem dX5_freshKind_32 : decode cX5_freshKind 32 = .ok (.ireturn, 1) := dk_172 (dk_at dksX5_freshKind_1 9 rfl rfl)
abbrev cX5_oldKind : ByteArray := prog_17_method_16_code
def yX5_oldKind : MethodName := ⟨RX5, "oldKind", "()I"⟩
def dkwX5_oldKind_1 : List UInt8 := [182, 0, 157, 172]
abbrev dktX5_oldKind_1 : List UInt8 := dkwX5_oldKind_1 ++ []
def dkwX5_oldKind_0 : List UInt8 := [42, 42, 180, 0, 46, 4, 160, 0, 17, 42, 180, 0, 24, 42, 180, 0, 17, 182, 0, 168, 167, 0, 4, 2]
abbrev dktX5_oldKind_0 : List UInt8 := dkwX5_oldKind_0 ++ dktX5_oldKind_1
theorem dksX5_oldKind_0 : cX5_oldKind.data.toList.drop 0 = dktX5_oldKind_0 := by decide +kernel
theorem dksX5_oldKind_1 : cX5_oldKind.data.toList.drop 24 = dktX5_oldKind_1 := dk_seg dksX5_oldKind_0 24 rfl rfl
theorem dX5_oldKind_0 : decode cX5_oldKind 0 = .ok (.aload_n 0, 1) := dk_42 (dk_at dksX5_oldKind_0 0 rfl rfl)
theorem dX5_oldKind_1 : decode cX5_oldKind 1 = .ok (.aload_n 0, 1) := dk_42 (dk_at dksX5_oldKind_0 1 rfl rfl)
theorem dX5_oldKind_2 : decode cX5_oldKind 2 = .ok (.getfield 46, 3) := dk_180 0 46 (dk_at dksX5_oldKind_0 2 rfl rfl)
theorem dX5_oldKind_5 : decode cX5_oldKind 5 = .ok (.iconst 1, 1) := dk_4 (dk_at dksX5_oldKind_0 5 rfl rfl)
theorem dX5_oldKind_6 : decode cX5_oldKind 6 = .ok (.if_icmp .ne 17, 3) := dk_160 0 17 (dk_at dksX5_oldKind_0 6 rfl rfl)
theorem dX5_oldKind_9 : decode cX5_oldKind 9 = .ok (.aload_n 0, 1) := dk_42 (dk_at dksX5_oldKind_0 9 rfl rfl)
theorem dX5_oldKind_10 : decode cX5_oldKind 10 = .ok (.getfield 24, 3) := dk_180 0 24 (dk_at dksX5_oldKind_0 10 rfl rfl)
theorem dX5_oldKind_13 : decode cX5_oldKind 13 = .ok (.aload_n 0, 1) := dk_42 (dk_at dksX5_oldKind_0 13 rfl rfl)
theorem dX5_oldKind_14 : decode cX5_oldKind 14 = .ok (.getfield 17, 3) := dk_180 0 17 (dk_at dksX5_oldKind_0 14 rfl rfl)
theorem dX5_oldKind_17 : decode cX5_oldKind 17 = .ok (.invokevirtual 168, 3) := dk_182 0 168 (dk_at dksX5_oldKind_0 17 rfl rfl)
theorem dX5_oldKind_20 : decode cX5_oldKind 20 = .ok (.goto 4, 3) := dk_167 0 4 (dk_at dksX5_oldKind_0 20 rfl rfl)
theorem dX5_oldKind_23 : decode cX5_oldKind 23 = .ok (.iconst (-1), 1) := dk_2 (dk_at dksX5_oldKind_0 23 rfl rfl)
theorem dX5_oldKind_24 : decode cX5_oldKind 24 = .ok (.invokevirtual 157, 3) := dk_182 0 157 (dk_at dksX5_oldKind_1 0 rfl rfl)
theorem dX5_oldKind_27 : decode cX5_oldKind 27 = .ok (.ireturn, 1) := dk_172 (dk_at dksX5_oldKind_1 3 rfl rfl)
abbrev cX5_pay : ByteArray := prog_17_method_23_code
def yX5_pay : MethodName := ⟨RX5, "pay", "()V"⟩
def dkwX5_pay_2 : List UInt8 := [177]
abbrev dktX5_pay_2 : List UInt8 := dkwX5_pay_2 ++ []
def dkwX5_pay_1 : List UInt8 := [180, 0, 252, 28, 42, 3, 16, 9, 182, 0, 225, 79, 43, 89, 180, 0, 249, 4, 28, 120, 128, 181, 0, 249]
abbrev dktX5_pay_1 : List UInt8 := dkwX5_pay_1 ++ dktX5_pay_2
def dkwX5_pay_0 : List UInt8 := [42, 182, 0, 90, 42, 182, 0, 236, 76, 42, 182, 0, 90, 42, 43, 180, 0, 249, 182, 0, 243, 61, 43]
abbrev dktX5_pay_0 : List UInt8 := dkwX5_pay_0 ++ dktX5_pay_1
theorem dksX5_pay_0 : cX5_pay.data.toList.drop 0 = dktX5_pay_0 := by decide +kernel
theorem dksX5_pay_1 : cX5_pay.data.toList.drop 23 = dktX5_pay_1 := dk_seg dksX5_pay_0 23 rfl rfl
theorem dksX5_pay_2 : cX5_pay.data.toList.drop 47 = dktX5_pay_2 := dk_seg dksX5_pay_1 24 rfl rfl
theorem dX5_pay_0 : decode cX5_pay 0 = .ok (.aload_n 0, 1) := dk_42 (dk_at dksX5_pay_0 0 rfl rfl)
theorem dX5_pay_1 : decode cX5_pay 1 = .ok (.invokevirtual 90, 3) := dk_182 0 90 (dk_at dksX5_pay_0 1 rfl rfl)
theorem dX5_pay_4 : decode cX5_pay 4 = .ok (.aload_n 0, 1) := dk_42 (dk_at dksX5_pay_0 4 rfl rfl)
theorem dX5_pay_5 : decode cX5_pay 5 = .ok (.invokevirtual 236, 3) := dk_182 0 236 (dk_at dksX5_pay_0 5 rfl rfl)
theorem dX5_pay_8 : decode cX5_pay 8 = .ok (.astore_n 1, 1) := dk_76 (dk_at dksX5_pay_0 8 rfl rfl)
theorem dX5_pay_9 : decode cX5_pay 9 = .ok (.aload_n 0, 1) := dk_42 (dk_at dksX5_pay_0 9 rfl rfl)
theorem dX5_pay_10 : decode cX5_pay 10 = .ok (.invokevirtual 90, 3) := dk_182 0 90 (dk_at dksX5_pay_0 10 rfl rfl)
theorem dX5_pay_13 : decode cX5_pay 13 = .ok (.aload_n 0, 1) := dk_42 (dk_at dksX5_pay_0 13 rfl rfl)
theorem dX5_pay_14 : decode cX5_pay 14 = .ok (.aload_n 1, 1) := dk_43 (dk_at dksX5_pay_0 14 rfl rfl)
theorem dX5_pay_15 : decode cX5_pay 15 = .ok (.getfield 249, 3) := dk_180 0 249 (dk_at dksX5_pay_0 15 rfl rfl)
theorem dX5_pay_18 : decode cX5_pay 18 = .ok (.invokevirtual 243, 3) := dk_182 0 243 (dk_at dksX5_pay_0 18 rfl rfl)
theorem dX5_pay_21 : decode cX5_pay 21 = .ok (.istore_n 2, 1) := dk_61 (dk_at dksX5_pay_0 21 rfl rfl)
theorem dX5_pay_22 : decode cX5_pay 22 = .ok (.aload_n 1, 1) := dk_43 (dk_at dksX5_pay_0 22 rfl rfl)
theorem dX5_pay_23 : decode cX5_pay 23 = .ok (.getfield 252, 3) := dk_180 0 252 (dk_at dksX5_pay_1 0 rfl rfl)
theorem dX5_pay_26 : decode cX5_pay 26 = .ok (.iload_n 2, 1) := dk_28 (dk_at dksX5_pay_1 3 rfl rfl)
theorem dX5_pay_27 : decode cX5_pay 27 = .ok (.aload_n 0, 1) := dk_42 (dk_at dksX5_pay_1 4 rfl rfl)
theorem dX5_pay_28 : decode cX5_pay 28 = .ok (.iconst 0, 1) := dk_3 (dk_at dksX5_pay_1 5 rfl rfl)
theorem dX5_pay_29 : decode cX5_pay 29 = .ok (.bipush 9, 2) := dk_16 9 (dk_at dksX5_pay_1 6 rfl rfl)
theorem dX5_pay_31 : decode cX5_pay 31 = .ok (.invokevirtual 225, 3) := dk_182 0 225 (dk_at dksX5_pay_1 8 rfl rfl)
theorem dX5_pay_34 : decode cX5_pay 34 = .ok (.iastore, 1) := dk_79 (dk_at dksX5_pay_1 11 rfl rfl)
theorem dX5_pay_35 : decode cX5_pay 35 = .ok (.aload_n 1, 1) := dk_43 (dk_at dksX5_pay_1 12 rfl rfl)
theorem dX5_pay_36 : decode cX5_pay 36 = .ok (.dup, 1) := dk_89 (dk_at dksX5_pay_1 13 rfl rfl)
theorem dX5_pay_37 : decode cX5_pay 37 = .ok (.getfield 249, 3) := dk_180 0 249 (dk_at dksX5_pay_1 14 rfl rfl)
theorem dX5_pay_40 : decode cX5_pay 40 = .ok (.iconst 1, 1) := dk_4 (dk_at dksX5_pay_1 17 rfl rfl)
theorem dX5_pay_41 : decode cX5_pay 41 = .ok (.iload_n 2, 1) := dk_28 (dk_at dksX5_pay_1 18 rfl rfl)
theorem dX5_pay_42 : decode cX5_pay 42 = .ok (.ishl, 1) := dk_120 (dk_at dksX5_pay_1 19 rfl rfl)
theorem dX5_pay_43 : decode cX5_pay 43 = .ok (.ior, 1) := dk_128 (dk_at dksX5_pay_1 20 rfl rfl)
theorem dX5_pay_44 : decode cX5_pay 44 = .ok (.putfield 249, 3) := dk_181 0 249 (dk_at dksX5_pay_1 21 rfl rfl)
theorem dX5_pay_47 : decode cX5_pay 47 = .ok (.return_, 1) := dk_177 (dk_at dksX5_pay_2 0 rfl rfl)
abbrev cX5_hedge : ByteArray := prog_17_method_24_code
def yX5_hedge : MethodName := ⟨RX5, "hedge", "()V"⟩
def dkwX5_hedge_2 : List UInt8 := [181, 0, 254, 177]
abbrev dktX5_hedge_2 : List UInt8 := dkwX5_hedge_2 ++ []
def dkwX5_hedge_1 : List UInt8 := [180, 0, 43, 183, 0, 77, 191, 42, 182, 0, 90, 43, 42, 3, 16, 10, 182, 0, 225, 181, 1, 1, 43, 4]
abbrev dktX5_hedge_1 : List UInt8 := dkwX5_hedge_1 ++ dktX5_hedge_2
def dkwX5_hedge_0 : List UInt8 := [42, 182, 0, 90, 42, 182, 0, 236, 76, 43, 180, 0, 254, 153, 0, 16, 187, 0, 75, 89, 6, 42]
abbrev dktX5_hedge_0 : List UInt8 := dkwX5_hedge_0 ++ dktX5_hedge_1
theorem dksX5_hedge_0 : cX5_hedge.data.toList.drop 0 = dktX5_hedge_0 := by decide +kernel
theorem dksX5_hedge_1 : cX5_hedge.data.toList.drop 22 = dktX5_hedge_1 := dk_seg dksX5_hedge_0 22 rfl rfl
theorem dksX5_hedge_2 : cX5_hedge.data.toList.drop 46 = dktX5_hedge_2 := dk_seg dksX5_hedge_1 24 rfl rfl
theorem dX5_hedge_0 : decode cX5_hedge 0 = .ok (.aload_n 0, 1) := dk_42 (dk_at dksX5_hedge_0 0 rfl rfl)
theorem dX5_hedge_1 : decode cX5_hedge 1 = .ok (.invokevirtual 90, 3) := dk_182 0 90 (dk_at dksX5_hedge_0 1 rfl rfl)
theorem dX5_hedge_4 : decode cX5_hedge 4 = .ok (.aload_n 0, 1) := dk_42 (dk_at dksX5_hedge_0 4 rfl rfl)
theorem dX5_hedge_5 : decode cX5_hedge 5 = .ok (.invokevirtual 236, 3) := dk_182 0 236 (dk_at dksX5_hedge_0 5 rfl rfl)
theorem dX5_hedge_8 : decode cX5_hedge 8 = .ok (.astore_n 1, 1) := dk_76 (dk_at dksX5_hedge_0 8 rfl rfl)
theorem dX5_hedge_9 : decode cX5_hedge 9 = .ok (.aload_n 1, 1) := dk_43 (dk_at dksX5_hedge_0 9 rfl rfl)
theorem dX5_hedge_10 : decode cX5_hedge 10 = .ok (.getfield 254, 3) := dk_180 0 254 (dk_at dksX5_hedge_0 10 rfl rfl)
theorem dX5_hedge_13 : decode cX5_hedge 13 = .ok (.ifCond .eq 16, 3) := dk_153 0 16 (dk_at dksX5_hedge_0 13 rfl rfl)
theorem dX5_hedge_16 : decode cX5_hedge 16 = .ok (.new 75, 3) := dk_187 0 75 (dk_at dksX5_hedge_0 16 rfl rfl)
theorem dX5_hedge_19 : decode cX5_hedge 19 = .ok (.dup, 1) := dk_89 (dk_at dksX5_hedge_0 19 rfl rfl)
theorem dX5_hedge_20 : decode cX5_hedge 20 = .ok (.iconst 3, 1) := dk_6 (dk_at dksX5_hedge_0 20 rfl rfl)
theorem dX5_hedge_21 : decode cX5_hedge 21 = .ok (.aload_n 0, 1) := dk_42 (dk_at dksX5_hedge_0 21 rfl rfl)
theorem dX5_hedge_22 : decode cX5_hedge 22 = .ok (.getfield 43, 3) := dk_180 0 43 (dk_at dksX5_hedge_1 0 rfl rfl)
theorem dX5_hedge_25 : decode cX5_hedge 25 = .ok (.invokespecial 77, 3) := dk_183 0 77 (dk_at dksX5_hedge_1 3 rfl rfl)
theorem dX5_hedge_28 : decode cX5_hedge 28 = .ok (.athrow, 1) := dk_191 (dk_at dksX5_hedge_1 6 rfl rfl)
theorem dX5_hedge_29 : decode cX5_hedge 29 = .ok (.aload_n 0, 1) := dk_42 (dk_at dksX5_hedge_1 7 rfl rfl)
theorem dX5_hedge_30 : decode cX5_hedge 30 = .ok (.invokevirtual 90, 3) := dk_182 0 90 (dk_at dksX5_hedge_1 8 rfl rfl)
theorem dX5_hedge_33 : decode cX5_hedge 33 = .ok (.aload_n 1, 1) := dk_43 (dk_at dksX5_hedge_1 11 rfl rfl)
theorem dX5_hedge_34 : decode cX5_hedge 34 = .ok (.aload_n 0, 1) := dk_42 (dk_at dksX5_hedge_1 12 rfl rfl)
theorem dX5_hedge_35 : decode cX5_hedge 35 = .ok (.iconst 0, 1) := dk_3 (dk_at dksX5_hedge_1 13 rfl rfl)
theorem dX5_hedge_36 : decode cX5_hedge 36 = .ok (.bipush 10, 2) := dk_16 10 (dk_at dksX5_hedge_1 14 rfl rfl)
theorem dX5_hedge_38 : decode cX5_hedge 38 = .ok (.invokevirtual 225, 3) := dk_182 0 225 (dk_at dksX5_hedge_1 16 rfl rfl)
theorem dX5_hedge_41 : decode cX5_hedge 41 = .ok (.putfield 257, 3) := dk_181 1 1 (dk_at dksX5_hedge_1 19 rfl rfl)
theorem dX5_hedge_44 : decode cX5_hedge 44 = .ok (.aload_n 1, 1) := dk_43 (dk_at dksX5_hedge_1 22 rfl rfl)
theorem dX5_hedge_45 : decode cX5_hedge 45 = .ok (.iconst 1, 1) := dk_4 (dk_at dksX5_hedge_1 23 rfl rfl)
theorem dX5_hedge_46 : decode cX5_hedge 46 = .ok (.putfield 254, 3) := dk_181 0 254 (dk_at dksX5_hedge_2 0 rfl rfl)
theorem dX5_hedge_49 : decode cX5_hedge 49 = .ok (.return_, 1) := dk_177 (dk_at dksX5_hedge_2 3 rfl rfl)
abbrev cX5_rate : ByteArray := prog_17_method_25_code
def yX5_rate : MethodName := ⟨RX5, "rate", "()V"⟩
def dkwX5_rate_4 : List UInt8 := [177]
abbrev dktX5_rate_4 : List UInt8 := dkwX5_rate_4 ++ []
def dkwX5_rate_3 : List UInt8 := [180, 1, 6, 187, 1, 9, 89, 27, 29, 28, 42, 4, 16, 9, 182, 0, 225, 183, 1, 11, 182, 0, 216, 87]
abbrev dktX5_rate_3 : List UInt8 := dkwX5_rate_3 ++ dktX5_rate_4
def dkwX5_rate_2 : List UInt8 := [198, 0, 16, 187, 0, 75, 89, 6, 42, 180, 0, 43, 183, 0, 77, 191, 42, 182, 0, 90, 42, 180, 0, 24]
abbrev dktX5_rate_2 : List UInt8 := dkwX5_rate_2 ++ dktX5_rate_3
def dkwX5_rate_1 : List UInt8 := [182, 0, 222, 42, 182, 0, 233, 62, 27, 29, 159, 0, 15, 42, 180, 0, 24, 27, 29, 182, 1, 3]
abbrev dktX5_rate_1 : List UInt8 := dkwX5_rate_1 ++ dktX5_rate_2
def dkwX5_rate_0 : List UInt8 := [42, 182, 0, 90, 42, 182, 0, 233, 60, 42, 182, 0, 90, 42, 4, 16, 9, 182, 0, 225, 61, 42, 18, 120]
abbrev dktX5_rate_0 : List UInt8 := dkwX5_rate_0 ++ dktX5_rate_1
theorem dksX5_rate_0 : cX5_rate.data.toList.drop 0 = dktX5_rate_0 := by decide +kernel
theorem dksX5_rate_1 : cX5_rate.data.toList.drop 24 = dktX5_rate_1 := dk_seg dksX5_rate_0 24 rfl rfl
theorem dksX5_rate_2 : cX5_rate.data.toList.drop 46 = dktX5_rate_2 := dk_seg dksX5_rate_1 22 rfl rfl
theorem dksX5_rate_3 : cX5_rate.data.toList.drop 70 = dktX5_rate_3 := dk_seg dksX5_rate_2 24 rfl rfl
theorem dksX5_rate_4 : cX5_rate.data.toList.drop 94 = dktX5_rate_4 := dk_seg dksX5_rate_3 24 rfl rfl
theorem dX5_rate_0 : decode cX5_rate 0 = .ok (.aload_n 0, 1) := dk_42 (dk_at dksX5_rate_0 0 rfl rfl)
theorem dX5_rate_1 : decode cX5_rate 1 = .ok (.invokevirtual 90, 3) := dk_182 0 90 (dk_at dksX5_rate_0 1 rfl rfl)
theorem dX5_rate_4 : decode cX5_rate 4 = .ok (.aload_n 0, 1) := dk_42 (dk_at dksX5_rate_0 4 rfl rfl)
theorem dX5_rate_5 : decode cX5_rate 5 = .ok (.invokevirtual 233, 3) := dk_182 0 233 (dk_at dksX5_rate_0 5 rfl rfl)
theorem dX5_rate_8 : decode cX5_rate 8 = .ok (.istore_n 1, 1) := dk_60 (dk_at dksX5_rate_0 8 rfl rfl)
theorem dX5_rate_9 : decode cX5_rate 9 = .ok (.aload_n 0, 1) := dk_42 (dk_at dksX5_rate_0 9 rfl rfl)
theorem dX5_rate_10 : decode cX5_rate 10 = .ok (.invokevirtual 90, 3) := dk_182 0 90 (dk_at dksX5_rate_0 10 rfl rfl)
theorem dX5_rate_13 : decode cX5_rate 13 = .ok (.aload_n 0, 1) := dk_42 (dk_at dksX5_rate_0 13 rfl rfl)
theorem dX5_rate_14 : decode cX5_rate 14 = .ok (.iconst 1, 1) := dk_4 (dk_at dksX5_rate_0 14 rfl rfl)
theorem dX5_rate_15 : decode cX5_rate 15 = .ok (.bipush 9, 2) := dk_16 9 (dk_at dksX5_rate_0 15 rfl rfl)
theorem dX5_rate_17 : decode cX5_rate 17 = .ok (.invokevirtual 225, 3) := dk_182 0 225 (dk_at dksX5_rate_0 17 rfl rfl)
theorem dX5_rate_20 : decode cX5_rate 20 = .ok (.istore_n 2, 1) := dk_61 (dk_at dksX5_rate_0 20 rfl rfl)
theorem dX5_rate_21 : decode cX5_rate 21 = .ok (.aload_n 0, 1) := dk_42 (dk_at dksX5_rate_0 21 rfl rfl)
theorem dX5_rate_22 : decode cX5_rate 22 = .ok (.ldc 120, 2) := dk_18 120 (dk_at dksX5_rate_0 22 rfl rfl)
theorem dX5_rate_24 : decode cX5_rate 24 = .ok (.invokevirtual 222, 3) := dk_182 0 222 (dk_at dksX5_rate_1 0 rfl rfl)
theorem dX5_rate_27 : decode cX5_rate 27 = .ok (.aload_n 0, 1) := dk_42 (dk_at dksX5_rate_1 3 rfl rfl)
theorem dX5_rate_28 : decode cX5_rate 28 = .ok (.invokevirtual 233, 3) := dk_182 0 233 (dk_at dksX5_rate_1 4 rfl rfl)
theorem dX5_rate_31 : decode cX5_rate 31 = .ok (.istore_n 3, 1) := dk_62 (dk_at dksX5_rate_1 7 rfl rfl)
theorem dX5_rate_32 : decode cX5_rate 32 = .ok (.iload_n 1, 1) := dk_27 (dk_at dksX5_rate_1 8 rfl rfl)
theorem dX5_rate_33 : decode cX5_rate 33 = .ok (.iload_n 3, 1) := dk_29 (dk_at dksX5_rate_1 9 rfl rfl)
theorem dX5_rate_34 : decode cX5_rate 34 = .ok (.if_icmp .eq 15, 3) := dk_159 0 15 (dk_at dksX5_rate_1 10 rfl rfl)
theorem dX5_rate_37 : decode cX5_rate 37 = .ok (.aload_n 0, 1) := dk_42 (dk_at dksX5_rate_1 13 rfl rfl)
theorem dX5_rate_38 : decode cX5_rate 38 = .ok (.getfield 24, 3) := dk_180 0 24 (dk_at dksX5_rate_1 14 rfl rfl)
theorem dX5_rate_41 : decode cX5_rate 41 = .ok (.iload_n 1, 1) := dk_27 (dk_at dksX5_rate_1 17 rfl rfl)
theorem dX5_rate_42 : decode cX5_rate 42 = .ok (.iload_n 3, 1) := dk_29 (dk_at dksX5_rate_1 18 rfl rfl)
theorem dX5_rate_43 : decode cX5_rate 43 = .ok (.invokevirtual 259, 3) := dk_182 1 3 (dk_at dksX5_rate_1 19 rfl rfl)
theorem dX5_rate_46 : decode cX5_rate 46 = .ok (.ifnull 16, 3) := dk_198 0 16 (dk_at dksX5_rate_2 0 rfl rfl)
theorem dX5_rate_49 : decode cX5_rate 49 = .ok (.new 75, 3) := dk_187 0 75 (dk_at dksX5_rate_2 3 rfl rfl)
theorem dX5_rate_52 : decode cX5_rate 52 = .ok (.dup, 1) := dk_89 (dk_at dksX5_rate_2 6 rfl rfl)
theorem dX5_rate_53 : decode cX5_rate 53 = .ok (.iconst 3, 1) := dk_6 (dk_at dksX5_rate_2 7 rfl rfl)
theorem dX5_rate_54 : decode cX5_rate 54 = .ok (.aload_n 0, 1) := dk_42 (dk_at dksX5_rate_2 8 rfl rfl)
theorem dX5_rate_55 : decode cX5_rate 55 = .ok (.getfield 43, 3) := dk_180 0 43 (dk_at dksX5_rate_2 9 rfl rfl)
theorem dX5_rate_58 : decode cX5_rate 58 = .ok (.invokespecial 77, 3) := dk_183 0 77 (dk_at dksX5_rate_2 12 rfl rfl)
theorem dX5_rate_61 : decode cX5_rate 61 = .ok (.athrow, 1) := dk_191 (dk_at dksX5_rate_2 15 rfl rfl)
theorem dX5_rate_62 : decode cX5_rate 62 = .ok (.aload_n 0, 1) := dk_42 (dk_at dksX5_rate_2 16 rfl rfl)
theorem dX5_rate_63 : decode cX5_rate 63 = .ok (.invokevirtual 90, 3) := dk_182 0 90 (dk_at dksX5_rate_2 17 rfl rfl)
theorem dX5_rate_66 : decode cX5_rate 66 = .ok (.aload_n 0, 1) := dk_42 (dk_at dksX5_rate_2 20 rfl rfl)
theorem dX5_rate_67 : decode cX5_rate 67 = .ok (.getfield 24, 3) := dk_180 0 24 (dk_at dksX5_rate_2 21 rfl rfl)
theorem dX5_rate_70 : decode cX5_rate 70 = .ok (.getfield 262, 3) := dk_180 1 6 (dk_at dksX5_rate_3 0 rfl rfl)
theorem dX5_rate_73 : decode cX5_rate 73 = .ok (.new 265, 3) := dk_187 1 9 (dk_at dksX5_rate_3 3 rfl rfl)
theorem dX5_rate_76 : decode cX5_rate 76 = .ok (.dup, 1) := dk_89 (dk_at dksX5_rate_3 6 rfl rfl)
theorem dX5_rate_77 : decode cX5_rate 77 = .ok (.iload_n 1, 1) := dk_27 (dk_at dksX5_rate_3 7 rfl rfl)
theorem dX5_rate_78 : decode cX5_rate 78 = .ok (.iload_n 3, 1) := dk_29 (dk_at dksX5_rate_3 8 rfl rfl)
theorem dX5_rate_79 : decode cX5_rate 79 = .ok (.iload_n 2, 1) := dk_28 (dk_at dksX5_rate_3 9 rfl rfl)
theorem dX5_rate_80 : decode cX5_rate 80 = .ok (.aload_n 0, 1) := dk_42 (dk_at dksX5_rate_3 10 rfl rfl)
theorem dX5_rate_81 : decode cX5_rate 81 = .ok (.iconst 1, 1) := dk_4 (dk_at dksX5_rate_3 11 rfl rfl)
theorem dX5_rate_82 : decode cX5_rate 82 = .ok (.bipush 9, 2) := dk_16 9 (dk_at dksX5_rate_3 12 rfl rfl)
theorem dX5_rate_84 : decode cX5_rate 84 = .ok (.invokevirtual 225, 3) := dk_182 0 225 (dk_at dksX5_rate_3 14 rfl rfl)
theorem dX5_rate_87 : decode cX5_rate 87 = .ok (.invokespecial 267, 3) := dk_183 1 11 (dk_at dksX5_rate_3 17 rfl rfl)
theorem dX5_rate_90 : decode cX5_rate 90 = .ok (.invokevirtual 216, 3) := dk_182 0 216 (dk_at dksX5_rate_3 20 rfl rfl)
theorem dX5_rate_93 : decode cX5_rate 93 = .ok (.pop, 1) := dk_87 (dk_at dksX5_rate_3 23 rfl rfl)
theorem dX5_rate_94 : decode cX5_rate 94 = .ok (.return_, 1) := dk_177 (dk_at dksX5_rate_4 0 rfl rfl)
abbrev cX5_book : ByteArray := prog_17_method_26_code
def yX5_book : MethodName := ⟨RX5, "book", "()V"⟩
def dkwX5_book_1 : List UInt8 := [182, 0, 225, 79, 42, 180, 0, 24, 89, 180, 0, 191, 4, 96, 181, 0, 191, 177]
abbrev dktX5_book_1 : List UInt8 := dkwX5_book_1 ++ []
def dkwX5_book_0 : List UInt8 := [42, 182, 0, 90, 42, 180, 0, 24, 180, 1, 14, 42, 180, 0, 24, 180, 0, 191, 42, 3, 16, 99]
abbrev dktX5_book_0 : List UInt8 := dkwX5_book_0 ++ dktX5_book_1
theorem dksX5_book_0 : cX5_book.data.toList.drop 0 = dktX5_book_0 := by decide +kernel
theorem dksX5_book_1 : cX5_book.data.toList.drop 22 = dktX5_book_1 := dk_seg dksX5_book_0 22 rfl rfl
theorem dX5_book_0 : decode cX5_book 0 = .ok (.aload_n 0, 1) := dk_42 (dk_at dksX5_book_0 0 rfl rfl)
theorem dX5_book_1 : decode cX5_book 1 = .ok (.invokevirtual 90, 3) := dk_182 0 90 (dk_at dksX5_book_0 1 rfl rfl)
theorem dX5_book_4 : decode cX5_book 4 = .ok (.aload_n 0, 1) := dk_42 (dk_at dksX5_book_0 4 rfl rfl)
theorem dX5_book_5 : decode cX5_book 5 = .ok (.getfield 24, 3) := dk_180 0 24 (dk_at dksX5_book_0 5 rfl rfl)
theorem dX5_book_8 : decode cX5_book 8 = .ok (.getfield 270, 3) := dk_180 1 14 (dk_at dksX5_book_0 8 rfl rfl)
theorem dX5_book_11 : decode cX5_book 11 = .ok (.aload_n 0, 1) := dk_42 (dk_at dksX5_book_0 11 rfl rfl)
theorem dX5_book_12 : decode cX5_book 12 = .ok (.getfield 24, 3) := dk_180 0 24 (dk_at dksX5_book_0 12 rfl rfl)
theorem dX5_book_15 : decode cX5_book 15 = .ok (.getfield 191, 3) := dk_180 0 191 (dk_at dksX5_book_0 15 rfl rfl)
theorem dX5_book_18 : decode cX5_book 18 = .ok (.aload_n 0, 1) := dk_42 (dk_at dksX5_book_0 18 rfl rfl)
theorem dX5_book_19 : decode cX5_book 19 = .ok (.iconst 0, 1) := dk_3 (dk_at dksX5_book_0 19 rfl rfl)
theorem dX5_book_20 : decode cX5_book 20 = .ok (.bipush 99, 2) := dk_16 99 (dk_at dksX5_book_0 20 rfl rfl)
theorem dX5_book_22 : decode cX5_book 22 = .ok (.invokevirtual 225, 3) := dk_182 0 225 (dk_at dksX5_book_1 0 rfl rfl)
theorem dX5_book_25 : decode cX5_book 25 = .ok (.iastore, 1) := dk_79 (dk_at dksX5_book_1 3 rfl rfl)
theorem dX5_book_26 : decode cX5_book 26 = .ok (.aload_n 0, 1) := dk_42 (dk_at dksX5_book_1 4 rfl rfl)
theorem dX5_book_27 : decode cX5_book 27 = .ok (.getfield 24, 3) := dk_180 0 24 (dk_at dksX5_book_1 5 rfl rfl)
theorem dX5_book_30 : decode cX5_book 30 = .ok (.dup, 1) := dk_89 (dk_at dksX5_book_1 8 rfl rfl)
theorem dX5_book_31 : decode cX5_book 31 = .ok (.getfield 191, 3) := dk_180 0 191 (dk_at dksX5_book_1 9 rfl rfl)
theorem dX5_book_34 : decode cX5_book 34 = .ok (.iconst 1, 1) := dk_4 (dk_at dksX5_book_1 12 rfl rfl)
theorem dX5_book_35 : decode cX5_book 35 = .ok (.iadd, 1) := dk_96 (dk_at dksX5_book_1 13 rfl rfl)
theorem dX5_book_36 : decode cX5_book 36 = .ok (.putfield 191, 3) := dk_181 0 191 (dk_at dksX5_book_1 14 rfl rfl)
theorem dX5_book_39 : decode cX5_book 39 = .ok (.return_, 1) := dk_177 (dk_at dksX5_book_1 17 rfl rfl)
abbrev cX5_grow : ByteArray := prog_17_method_27_code
def yX5_grow : MethodName := ⟨RX5, "grow", "()V"⟩
def dkwX5_grow_0 : List UInt8 := [42, 182, 0, 90, 42, 180, 0, 24, 42, 182, 1, 17, 181, 0, 196, 177]
abbrev dktX5_grow_0 : List UInt8 := dkwX5_grow_0 ++ []
theorem dksX5_grow_0 : cX5_grow.data.toList.drop 0 = dktX5_grow_0 := by decide +kernel
theorem dX5_grow_0 : decode cX5_grow 0 = .ok (.aload_n 0, 1) := dk_42 (dk_at dksX5_grow_0 0 rfl rfl)
theorem dX5_grow_1 : decode cX5_grow 1 = .ok (.invokevirtual 90, 3) := dk_182 0 90 (dk_at dksX5_grow_0 1 rfl rfl)
theorem dX5_grow_4 : decode cX5_grow 4 = .ok (.aload_n 0, 1) := dk_42 (dk_at dksX5_grow_0 4 rfl rfl)
theorem dX5_grow_5 : decode cX5_grow 5 = .ok (.getfield 24, 3) := dk_180 0 24 (dk_at dksX5_grow_0 5 rfl rfl)
theorem dX5_grow_8 : decode cX5_grow 8 = .ok (.aload_n 0, 1) := dk_42 (dk_at dksX5_grow_0 8 rfl rfl)
theorem dX5_grow_9 : decode cX5_grow 9 = .ok (.invokevirtual 273, 3) := dk_182 1 17 (dk_at dksX5_grow_0 9 rfl rfl)
theorem dX5_grow_12 : decode cX5_grow 12 = .ok (.putfield 196, 3) := dk_181 0 196 (dk_at dksX5_grow_0 12 rfl rfl)
theorem dX5_grow_15 : decode cX5_grow 15 = .ok (.return_, 1) := dk_177 (dk_at dksX5_grow_0 15 rfl rfl)
abbrev cX5_e : ByteArray := prog_17_method_30_code
def yX5_e : MethodName := ⟨RX5, "e", "()LWeatherWages$Node;"⟩
def dkwX5_e_0 : List UInt8 := [42, 3, 181, 1, 26, 42, 3, 181, 1, 29, 42, 182, 1, 32, 176]
abbrev dktX5_e_0 : List UInt8 := dkwX5_e_0 ++ []
theorem dksX5_e_0 : cX5_e.data.toList.drop 0 = dktX5_e_0 := by decide +kernel
theorem dX5_e_0 : decode cX5_e 0 = .ok (.aload_n 0, 1) := dk_42 (dk_at dksX5_e_0 0 rfl rfl)
theorem dX5_e_1 : decode cX5_e 1 = .ok (.iconst 0, 1) := dk_3 (dk_at dksX5_e_0 1 rfl rfl)
theorem dX5_e_2 : decode cX5_e 2 = .ok (.putfield 282, 3) := dk_181 1 26 (dk_at dksX5_e_0 2 rfl rfl)
theorem dX5_e_5 : decode cX5_e 5 = .ok (.aload_n 0, 1) := dk_42 (dk_at dksX5_e_0 5 rfl rfl)
theorem dX5_e_6 : decode cX5_e 6 = .ok (.iconst 0, 1) := dk_3 (dk_at dksX5_e_0 6 rfl rfl)
theorem dX5_e_7 : decode cX5_e 7 = .ok (.putfield 285, 3) := dk_181 1 29 (dk_at dksX5_e_0 7 rfl rfl)
theorem dX5_e_10 : decode cX5_e 10 = .ok (.aload_n 0, 1) := dk_42 (dk_at dksX5_e_0 10 rfl rfl)
theorem dX5_e_11 : decode cX5_e 11 = .ok (.invokevirtual 288, 3) := dk_182 1 32 (dk_at dksX5_e_0 11 rfl rfl)
theorem dX5_e_14 : decode cX5_e 14 = .ok (.areturn, 1) := dk_176 (dk_at dksX5_e_0 14 rfl rfl)
abbrev cX5_both : ByteArray := prog_17_method_31_code
def yX5_both : MethodName := ⟨RX5, "both", "()LWeatherWages$Node;"⟩
def dkwX5_both_1 : List UInt8 := [16, 124, 183, 1, 40, 76, 167, 255, 232, 43, 176]
abbrev dktX5_both_1 : List UInt8 := dkwX5_both_1 ++ []
def dkwX5_both_0 : List UInt8 := [42, 182, 1, 35, 76, 42, 18, 142, 182, 0, 93, 153, 0, 21, 187, 1, 38, 89, 43, 42, 182, 1, 35]
abbrev dktX5_both_0 : List UInt8 := dkwX5_both_0 ++ dktX5_both_1
theorem dksX5_both_0 : cX5_both.data.toList.drop 0 = dktX5_both_0 := by decide +kernel
theorem dksX5_both_1 : cX5_both.data.toList.drop 23 = dktX5_both_1 := dk_seg dksX5_both_0 23 rfl rfl
theorem dX5_both_0 : decode cX5_both 0 = .ok (.aload_n 0, 1) := dk_42 (dk_at dksX5_both_0 0 rfl rfl)
theorem dX5_both_1 : decode cX5_both 1 = .ok (.invokevirtual 291, 3) := dk_182 1 35 (dk_at dksX5_both_0 1 rfl rfl)
theorem dX5_both_4 : decode cX5_both 4 = .ok (.astore_n 1, 1) := dk_76 (dk_at dksX5_both_0 4 rfl rfl)
theorem dX5_both_5 : decode cX5_both 5 = .ok (.aload_n 0, 1) := dk_42 (dk_at dksX5_both_0 5 rfl rfl)
theorem dX5_both_6 : decode cX5_both 6 = .ok (.ldc 142, 2) := dk_18 142 (dk_at dksX5_both_0 6 rfl rfl)
theorem dX5_both_8 : decode cX5_both 8 = .ok (.invokevirtual 93, 3) := dk_182 0 93 (dk_at dksX5_both_0 8 rfl rfl)
theorem dX5_both_11 : decode cX5_both 11 = .ok (.ifCond .eq 21, 3) := dk_153 0 21 (dk_at dksX5_both_0 11 rfl rfl)
theorem dX5_both_14 : decode cX5_both 14 = .ok (.new 294, 3) := dk_187 1 38 (dk_at dksX5_both_0 14 rfl rfl)
theorem dX5_both_17 : decode cX5_both 17 = .ok (.dup, 1) := dk_89 (dk_at dksX5_both_0 17 rfl rfl)
theorem dX5_both_18 : decode cX5_both 18 = .ok (.aload_n 1, 1) := dk_43 (dk_at dksX5_both_0 18 rfl rfl)
theorem dX5_both_19 : decode cX5_both 19 = .ok (.aload_n 0, 1) := dk_42 (dk_at dksX5_both_0 19 rfl rfl)
theorem dX5_both_20 : decode cX5_both 20 = .ok (.invokevirtual 291, 3) := dk_182 1 35 (dk_at dksX5_both_0 20 rfl rfl)
theorem dX5_both_23 : decode cX5_both 23 = .ok (.bipush 124, 2) := dk_16 124 (dk_at dksX5_both_1 0 rfl rfl)
theorem dX5_both_25 : decode cX5_both 25 = .ok (.invokespecial 296, 3) := dk_183 1 40 (dk_at dksX5_both_1 2 rfl rfl)
theorem dX5_both_28 : decode cX5_both 28 = .ok (.astore_n 1, 1) := dk_76 (dk_at dksX5_both_1 5 rfl rfl)
theorem dX5_both_29 : decode cX5_both 29 = .ok (.goto (-24), 3) := dk_167 255 232 (dk_at dksX5_both_1 6 rfl rfl)
theorem dX5_both_32 : decode cX5_both 32 = .ok (.aload_n 1, 1) := dk_43 (dk_at dksX5_both_1 9 rfl rfl)
theorem dX5_both_33 : decode cX5_both 33 = .ok (.areturn, 1) := dk_176 (dk_at dksX5_both_1 10 rfl rfl)
abbrev cX5_all : ByteArray := prog_17_method_32_code
def yX5_all : MethodName := ⟨RX5, "all", "()LWeatherWages$Node;"⟩
def dkwX5_all_1 : List UInt8 := [16, 38, 183, 1, 40, 76, 167, 255, 232, 43, 176]
abbrev dktX5_all_1 : List UInt8 := dkwX5_all_1 ++ []
def dkwX5_all_0 : List UInt8 := [42, 182, 1, 43, 76, 42, 18, 140, 182, 0, 93, 153, 0, 21, 187, 1, 38, 89, 43, 42, 182, 1, 43]
abbrev dktX5_all_0 : List UInt8 := dkwX5_all_0 ++ dktX5_all_1
theorem dksX5_all_0 : cX5_all.data.toList.drop 0 = dktX5_all_0 := by decide +kernel
theorem dksX5_all_1 : cX5_all.data.toList.drop 23 = dktX5_all_1 := dk_seg dksX5_all_0 23 rfl rfl
theorem dX5_all_0 : decode cX5_all 0 = .ok (.aload_n 0, 1) := dk_42 (dk_at dksX5_all_0 0 rfl rfl)
theorem dX5_all_1 : decode cX5_all 1 = .ok (.invokevirtual 299, 3) := dk_182 1 43 (dk_at dksX5_all_0 1 rfl rfl)
theorem dX5_all_4 : decode cX5_all 4 = .ok (.astore_n 1, 1) := dk_76 (dk_at dksX5_all_0 4 rfl rfl)
theorem dX5_all_5 : decode cX5_all 5 = .ok (.aload_n 0, 1) := dk_42 (dk_at dksX5_all_0 5 rfl rfl)
theorem dX5_all_6 : decode cX5_all 6 = .ok (.ldc 140, 2) := dk_18 140 (dk_at dksX5_all_0 6 rfl rfl)
theorem dX5_all_8 : decode cX5_all 8 = .ok (.invokevirtual 93, 3) := dk_182 0 93 (dk_at dksX5_all_0 8 rfl rfl)
theorem dX5_all_11 : decode cX5_all 11 = .ok (.ifCond .eq 21, 3) := dk_153 0 21 (dk_at dksX5_all_0 11 rfl rfl)
theorem dX5_all_14 : decode cX5_all 14 = .ok (.new 294, 3) := dk_187 1 38 (dk_at dksX5_all_0 14 rfl rfl)
theorem dX5_all_17 : decode cX5_all 17 = .ok (.dup, 1) := dk_89 (dk_at dksX5_all_0 17 rfl rfl)
theorem dX5_all_18 : decode cX5_all 18 = .ok (.aload_n 1, 1) := dk_43 (dk_at dksX5_all_0 18 rfl rfl)
theorem dX5_all_19 : decode cX5_all 19 = .ok (.aload_n 0, 1) := dk_42 (dk_at dksX5_all_0 19 rfl rfl)
theorem dX5_all_20 : decode cX5_all 20 = .ok (.invokevirtual 299, 3) := dk_182 1 43 (dk_at dksX5_all_0 20 rfl rfl)
theorem dX5_all_23 : decode cX5_all 23 = .ok (.bipush 38, 2) := dk_16 38 (dk_at dksX5_all_1 0 rfl rfl)
theorem dX5_all_25 : decode cX5_all 25 = .ok (.invokespecial 296, 3) := dk_183 1 40 (dk_at dksX5_all_1 2 rfl rfl)
theorem dX5_all_28 : decode cX5_all 28 = .ok (.astore_n 1, 1) := dk_76 (dk_at dksX5_all_1 5 rfl rfl)
theorem dX5_all_29 : decode cX5_all 29 = .ok (.goto (-24), 3) := dk_167 255 232 (dk_at dksX5_all_1 6 rfl rfl)
theorem dX5_all_32 : decode cX5_all 32 = .ok (.aload_n 1, 1) := dk_43 (dk_at dksX5_all_1 9 rfl rfl)
theorem dX5_all_33 : decode cX5_all 33 = .ok (.areturn, 1) := dk_176 (dk_at dksX5_all_1 10 rfl rfl)
abbrev cX5_one : ByteArray := prog_17_method_33_code
def yX5_one : MethodName := ⟨RX5, "one", "()LWeatherWages$Node;"⟩
def dkwX5_one_4 : List UInt8 := [180, 0, 46, 146, 61, 42, 182, 0, 90, 187, 1, 38, 89, 43, 42, 182, 1, 51, 28, 183, 1, 40, 176]
abbrev dktX5_one_4 : List UInt8 := dkwX5_one_4 ++ []
def dkwX5_one_3 : List UInt8 := [159, 0, 23, 42, 180, 0, 46, 16, 62, 159, 0, 14, 42, 180, 0, 46, 16, 61, 159, 0, 5, 43, 176, 42]
abbrev dktX5_one_3 : List UInt8 := dkwX5_one_3 ++ dktX5_one_4
def dkwX5_one_2 : List UInt8 := [76, 42, 89, 180, 1, 26, 4, 100, 181, 1, 26, 43, 176, 42, 182, 1, 51, 76, 42, 180, 0, 46, 16, 60]
abbrev dktX5_one_2 : List UInt8 := dkwX5_one_2 ++ dktX5_one_3
def dkwX5_one_1 : List UInt8 := [89, 180, 1, 26, 4, 96, 181, 1, 26, 42, 182, 0, 90, 187, 1, 46, 89, 42, 182, 1, 43, 183, 1, 48]
abbrev dktX5_one_1 : List UInt8 := dkwX5_one_1 ++ dktX5_one_2
def dkwX5_one_0 : List UInt8 := [42, 18, 144, 182, 0, 86, 153, 0, 55, 42, 180, 1, 26, 16, 6, 164, 0, 8, 42, 182, 0, 96, 191, 42]
abbrev dktX5_one_0 : List UInt8 := dkwX5_one_0 ++ dktX5_one_1
theorem dksX5_one_0 : cX5_one.data.toList.drop 0 = dktX5_one_0 := by decide +kernel
theorem dksX5_one_1 : cX5_one.data.toList.drop 24 = dktX5_one_1 := dk_seg dksX5_one_0 24 rfl rfl
theorem dksX5_one_2 : cX5_one.data.toList.drop 48 = dktX5_one_2 := dk_seg dksX5_one_1 24 rfl rfl
theorem dksX5_one_3 : cX5_one.data.toList.drop 72 = dktX5_one_3 := dk_seg dksX5_one_2 24 rfl rfl
theorem dksX5_one_4 : cX5_one.data.toList.drop 96 = dktX5_one_4 := dk_seg dksX5_one_3 24 rfl rfl
theorem dX5_one_0 : decode cX5_one 0 = .ok (.aload_n 0, 1) := dk_42 (dk_at dksX5_one_0 0 rfl rfl)
theorem dX5_one_1 : decode cX5_one 1 = .ok (.ldc 144, 2) := dk_18 144 (dk_at dksX5_one_0 1 rfl rfl)
theorem dX5_one_3 : decode cX5_one 3 = .ok (.invokevirtual 86, 3) := dk_182 0 86 (dk_at dksX5_one_0 3 rfl rfl)
theorem dX5_one_6 : decode cX5_one 6 = .ok (.ifCond .eq 55, 3) := dk_153 0 55 (dk_at dksX5_one_0 6 rfl rfl)
theorem dX5_one_9 : decode cX5_one 9 = .ok (.aload_n 0, 1) := dk_42 (dk_at dksX5_one_0 9 rfl rfl)
theorem dX5_one_10 : decode cX5_one 10 = .ok (.getfield 282, 3) := dk_180 1 26 (dk_at dksX5_one_0 10 rfl rfl)
theorem dX5_one_13 : decode cX5_one 13 = .ok (.bipush 6, 2) := dk_16 6 (dk_at dksX5_one_0 13 rfl rfl)
theorem dX5_one_15 : decode cX5_one 15 = .ok (.if_icmp .le 8, 3) := dk_164 0 8 (dk_at dksX5_one_0 15 rfl rfl)
theorem dX5_one_18 : decode cX5_one 18 = .ok (.aload_n 0, 1) := dk_42 (dk_at dksX5_one_0 18 rfl rfl)
theorem dX5_one_19 : decode cX5_one 19 = .ok (.invokevirtual 96, 3) := dk_182 0 96 (dk_at dksX5_one_0 19 rfl rfl)
theorem dX5_one_22 : decode cX5_one 22 = .ok (.athrow, 1) := dk_191 (dk_at dksX5_one_0 22 rfl rfl)
theorem dX5_one_23 : decode cX5_one 23 = .ok (.aload_n 0, 1) := dk_42 (dk_at dksX5_one_0 23 rfl rfl)
theorem dX5_one_24 : decode cX5_one 24 = .ok (.dup, 1) := dk_89 (dk_at dksX5_one_1 0 rfl rfl)
theorem dX5_one_25 : decode cX5_one 25 = .ok (.getfield 282, 3) := dk_180 1 26 (dk_at dksX5_one_1 1 rfl rfl)
theorem dX5_one_28 : decode cX5_one 28 = .ok (.iconst 1, 1) := dk_4 (dk_at dksX5_one_1 4 rfl rfl)
theorem dX5_one_29 : decode cX5_one 29 = .ok (.iadd, 1) := dk_96 (dk_at dksX5_one_1 5 rfl rfl)
theorem dX5_one_30 : decode cX5_one 30 = .ok (.putfield 282, 3) := dk_181 1 26 (dk_at dksX5_one_1 6 rfl rfl)
theorem dX5_one_33 : decode cX5_one 33 = .ok (.aload_n 0, 1) := dk_42 (dk_at dksX5_one_1 9 rfl rfl)
theorem dX5_one_34 : decode cX5_one 34 = .ok (.invokevirtual 90, 3) := dk_182 0 90 (dk_at dksX5_one_1 10 rfl rfl)
theorem dX5_one_37 : decode cX5_one 37 = .ok (.new 302, 3) := dk_187 1 46 (dk_at dksX5_one_1 13 rfl rfl)
theorem dX5_one_40 : decode cX5_one 40 = .ok (.dup, 1) := dk_89 (dk_at dksX5_one_1 16 rfl rfl)
theorem dX5_one_41 : decode cX5_one 41 = .ok (.aload_n 0, 1) := dk_42 (dk_at dksX5_one_1 17 rfl rfl)
theorem dX5_one_42 : decode cX5_one 42 = .ok (.invokevirtual 299, 3) := dk_182 1 43 (dk_at dksX5_one_1 18 rfl rfl)
theorem dX5_one_45 : decode cX5_one 45 = .ok (.invokespecial 304, 3) := dk_183 1 48 (dk_at dksX5_one_1 21 rfl rfl)
theorem dX5_one_48 : decode cX5_one 48 = .ok (.astore_n 1, 1) := dk_76 (dk_at dksX5_one_2 0 rfl rfl)
theorem dX5_one_49 : decode cX5_one 49 = .ok (.aload_n 0, 1) := dk_42 (dk_at dksX5_one_2 1 rfl rfl)
theorem dX5_one_50 : decode cX5_one 50 = .ok (.dup, 1) := dk_89 (dk_at dksX5_one_2 2 rfl rfl)
theorem dX5_one_51 : decode cX5_one 51 = .ok (.getfield 282, 3) := dk_180 1 26 (dk_at dksX5_one_2 3 rfl rfl)
theorem dX5_one_54 : decode cX5_one 54 = .ok (.iconst 1, 1) := dk_4 (dk_at dksX5_one_2 6 rfl rfl)
theorem dX5_one_55 : decode cX5_one 55 = .ok (.isub, 1) := dk_100 (dk_at dksX5_one_2 7 rfl rfl)
theorem dX5_one_56 : decode cX5_one 56 = .ok (.putfield 282, 3) := dk_181 1 26 (dk_at dksX5_one_2 8 rfl rfl)
theorem dX5_one_59 : decode cX5_one 59 = .ok (.aload_n 1, 1) := dk_43 (dk_at dksX5_one_2 11 rfl rfl)
theorem dX5_one_60 : decode cX5_one 60 = .ok (.areturn, 1) := dk_176 (dk_at dksX5_one_2 12 rfl rfl)
theorem dX5_one_61 : decode cX5_one 61 = .ok (.aload_n 0, 1) := dk_42 (dk_at dksX5_one_2 13 rfl rfl)
theorem dX5_one_62 : decode cX5_one 62 = .ok (.invokevirtual 307, 3) := dk_182 1 51 (dk_at dksX5_one_2 14 rfl rfl)
theorem dX5_one_65 : decode cX5_one 65 = .ok (.astore_n 1, 1) := dk_76 (dk_at dksX5_one_2 17 rfl rfl)
theorem dX5_one_66 : decode cX5_one 66 = .ok (.aload_n 0, 1) := dk_42 (dk_at dksX5_one_2 18 rfl rfl)
theorem dX5_one_67 : decode cX5_one 67 = .ok (.getfield 46, 3) := dk_180 0 46 (dk_at dksX5_one_2 19 rfl rfl)
theorem dX5_one_70 : decode cX5_one 70 = .ok (.bipush 60, 2) := dk_16 60 (dk_at dksX5_one_2 22 rfl rfl)
theorem dX5_one_72 : decode cX5_one 72 = .ok (.if_icmp .eq 23, 3) := dk_159 0 23 (dk_at dksX5_one_3 0 rfl rfl)
theorem dX5_one_75 : decode cX5_one 75 = .ok (.aload_n 0, 1) := dk_42 (dk_at dksX5_one_3 3 rfl rfl)
theorem dX5_one_76 : decode cX5_one 76 = .ok (.getfield 46, 3) := dk_180 0 46 (dk_at dksX5_one_3 4 rfl rfl)
theorem dX5_one_79 : decode cX5_one 79 = .ok (.bipush 62, 2) := dk_16 62 (dk_at dksX5_one_3 7 rfl rfl)
theorem dX5_one_81 : decode cX5_one 81 = .ok (.if_icmp .eq 14, 3) := dk_159 0 14 (dk_at dksX5_one_3 9 rfl rfl)
theorem dX5_one_84 : decode cX5_one 84 = .ok (.aload_n 0, 1) := dk_42 (dk_at dksX5_one_3 12 rfl rfl)
theorem dX5_one_85 : decode cX5_one 85 = .ok (.getfield 46, 3) := dk_180 0 46 (dk_at dksX5_one_3 13 rfl rfl)
theorem dX5_one_88 : decode cX5_one 88 = .ok (.bipush 61, 2) := dk_16 61 (dk_at dksX5_one_3 16 rfl rfl)
theorem dX5_one_90 : decode cX5_one 90 = .ok (.if_icmp .eq 5, 3) := dk_159 0 5 (dk_at dksX5_one_3 18 rfl rfl)
theorem dX5_one_93 : decode cX5_one 93 = .ok (.aload_n 1, 1) := dk_43 (dk_at dksX5_one_3 21 rfl rfl)
theorem dX5_one_94 : decode cX5_one 94 = .ok (.areturn, 1) := dk_176 (dk_at dksX5_one_3 22 rfl rfl)
theorem dX5_one_95 : decode cX5_one 95 = .ok (.aload_n 0, 1) := dk_42 (dk_at dksX5_one_3 23 rfl rfl)
theorem dX5_one_96 : decode cX5_one 96 = .ok (.getfield 46, 3) := dk_180 0 46 (dk_at dksX5_one_4 0 rfl rfl)
theorem dX5_one_99 : decode cX5_one 99 = .ok (.i2c, 1) := dk_146 (dk_at dksX5_one_4 3 rfl rfl)
theorem dX5_one_100 : decode cX5_one 100 = .ok (.istore_n 2, 1) := dk_61 (dk_at dksX5_one_4 4 rfl rfl)
theorem dX5_one_101 : decode cX5_one 101 = .ok (.aload_n 0, 1) := dk_42 (dk_at dksX5_one_4 5 rfl rfl)
theorem dX5_one_102 : decode cX5_one 102 = .ok (.invokevirtual 90, 3) := dk_182 0 90 (dk_at dksX5_one_4 6 rfl rfl)
theorem dX5_one_105 : decode cX5_one 105 = .ok (.new 294, 3) := dk_187 1 38 (dk_at dksX5_one_4 9 rfl rfl)
theorem dX5_one_108 : decode cX5_one 108 = .ok (.dup, 1) := dk_89 (dk_at dksX5_one_4 12 rfl rfl)
theorem dX5_one_109 : decode cX5_one 109 = .ok (.aload_n 1, 1) := dk_43 (dk_at dksX5_one_4 13 rfl rfl)
theorem dX5_one_110 : decode cX5_one 110 = .ok (.aload_n 0, 1) := dk_42 (dk_at dksX5_one_4 14 rfl rfl)
theorem dX5_one_111 : decode cX5_one 111 = .ok (.invokevirtual 307, 3) := dk_182 1 51 (dk_at dksX5_one_4 15 rfl rfl)
theorem dX5_one_114 : decode cX5_one 114 = .ok (.iload_n 2, 1) := dk_28 (dk_at dksX5_one_4 18 rfl rfl)
theorem dX5_one_115 : decode cX5_one 115 = .ok (.invokespecial 296, 3) := dk_183 1 40 (dk_at dksX5_one_4 19 rfl rfl)
theorem dX5_one_118 : decode cX5_one 118 = .ok (.areturn, 1) := dk_176 (dk_at dksX5_one_4 22 rfl rfl)
abbrev cX5_sum : ByteArray := prog_17_method_34_code
def yX5_sum : MethodName := ⟨RX5, "sum", "()LWeatherWages$Node;"⟩
def dkwX5_sum_2 : List UInt8 := [167, 255, 214, 43, 176]
abbrev dktX5_sum_2 : List UInt8 := dkwX5_sum_2 ++ []
def dkwX5_sum_1 : List UInt8 := [180, 0, 46, 146, 61, 42, 182, 0, 90, 187, 1, 38, 89, 43, 42, 182, 1, 54, 28, 183, 1, 40, 76]
abbrev dktX5_sum_1 : List UInt8 := dkwX5_sum_1 ++ dktX5_sum_2
def dkwX5_sum_0 : List UInt8 := [42, 182, 1, 54, 76, 42, 180, 0, 46, 16, 43, 159, 0, 12, 42, 180, 0, 46, 16, 45, 160, 0, 30, 42]
abbrev dktX5_sum_0 : List UInt8 := dkwX5_sum_0 ++ dktX5_sum_1
theorem dksX5_sum_0 : cX5_sum.data.toList.drop 0 = dktX5_sum_0 := by decide +kernel
theorem dksX5_sum_1 : cX5_sum.data.toList.drop 24 = dktX5_sum_1 := dk_seg dksX5_sum_0 24 rfl rfl
theorem dksX5_sum_2 : cX5_sum.data.toList.drop 47 = dktX5_sum_2 := dk_seg dksX5_sum_1 23 rfl rfl
theorem dX5_sum_0 : decode cX5_sum 0 = .ok (.aload_n 0, 1) := dk_42 (dk_at dksX5_sum_0 0 rfl rfl)
theorem dX5_sum_1 : decode cX5_sum 1 = .ok (.invokevirtual 310, 3) := dk_182 1 54 (dk_at dksX5_sum_0 1 rfl rfl)
theorem dX5_sum_4 : decode cX5_sum 4 = .ok (.astore_n 1, 1) := dk_76 (dk_at dksX5_sum_0 4 rfl rfl)
theorem dX5_sum_5 : decode cX5_sum 5 = .ok (.aload_n 0, 1) := dk_42 (dk_at dksX5_sum_0 5 rfl rfl)
theorem dX5_sum_6 : decode cX5_sum 6 = .ok (.getfield 46, 3) := dk_180 0 46 (dk_at dksX5_sum_0 6 rfl rfl)
theorem dX5_sum_9 : decode cX5_sum 9 = .ok (.bipush 43, 2) := dk_16 43 (dk_at dksX5_sum_0 9 rfl rfl)
theorem dX5_sum_11 : decode cX5_sum 11 = .ok (.if_icmp .eq 12, 3) := dk_159 0 12 (dk_at dksX5_sum_0 11 rfl rfl)
theorem dX5_sum_14 : decode cX5_sum 14 = .ok (.aload_n 0, 1) := dk_42 (dk_at dksX5_sum_0 14 rfl rfl)
theorem dX5_sum_15 : decode cX5_sum 15 = .ok (.getfield 46, 3) := dk_180 0 46 (dk_at dksX5_sum_0 15 rfl rfl)
theorem dX5_sum_18 : decode cX5_sum 18 = .ok (.bipush 45, 2) := dk_16 45 (dk_at dksX5_sum_0 18 rfl rfl)
theorem dX5_sum_20 : decode cX5_sum 20 = .ok (.if_icmp .ne 30, 3) := dk_160 0 30 (dk_at dksX5_sum_0 20 rfl rfl)
theorem dX5_sum_23 : decode cX5_sum 23 = .ok (.aload_n 0, 1) := dk_42 (dk_at dksX5_sum_0 23 rfl rfl)
theorem dX5_sum_24 : decode cX5_sum 24 = .ok (.getfield 46, 3) := dk_180 0 46 (dk_at dksX5_sum_1 0 rfl rfl)
theorem dX5_sum_27 : decode cX5_sum 27 = .ok (.i2c, 1) := dk_146 (dk_at dksX5_sum_1 3 rfl rfl)
theorem dX5_sum_28 : decode cX5_sum 28 = .ok (.istore_n 2, 1) := dk_61 (dk_at dksX5_sum_1 4 rfl rfl)
theorem dX5_sum_29 : decode cX5_sum 29 = .ok (.aload_n 0, 1) := dk_42 (dk_at dksX5_sum_1 5 rfl rfl)
theorem dX5_sum_30 : decode cX5_sum 30 = .ok (.invokevirtual 90, 3) := dk_182 0 90 (dk_at dksX5_sum_1 6 rfl rfl)
theorem dX5_sum_33 : decode cX5_sum 33 = .ok (.new 294, 3) := dk_187 1 38 (dk_at dksX5_sum_1 9 rfl rfl)
theorem dX5_sum_36 : decode cX5_sum 36 = .ok (.dup, 1) := dk_89 (dk_at dksX5_sum_1 12 rfl rfl)
theorem dX5_sum_37 : decode cX5_sum 37 = .ok (.aload_n 1, 1) := dk_43 (dk_at dksX5_sum_1 13 rfl rfl)
theorem dX5_sum_38 : decode cX5_sum 38 = .ok (.aload_n 0, 1) := dk_42 (dk_at dksX5_sum_1 14 rfl rfl)
theorem dX5_sum_39 : decode cX5_sum 39 = .ok (.invokevirtual 310, 3) := dk_182 1 54 (dk_at dksX5_sum_1 15 rfl rfl)
theorem dX5_sum_42 : decode cX5_sum 42 = .ok (.iload_n 2, 1) := dk_28 (dk_at dksX5_sum_1 18 rfl rfl)
theorem dX5_sum_43 : decode cX5_sum 43 = .ok (.invokespecial 296, 3) := dk_183 1 40 (dk_at dksX5_sum_1 19 rfl rfl)
theorem dX5_sum_46 : decode cX5_sum 46 = .ok (.astore_n 1, 1) := dk_76 (dk_at dksX5_sum_1 22 rfl rfl)
theorem dX5_sum_47 : decode cX5_sum 47 = .ok (.goto (-42), 3) := dk_167 255 214 (dk_at dksX5_sum_2 0 rfl rfl)
theorem dX5_sum_50 : decode cX5_sum 50 = .ok (.aload_n 1, 1) := dk_43 (dk_at dksX5_sum_2 3 rfl rfl)
theorem dX5_sum_51 : decode cX5_sum 51 = .ok (.areturn, 1) := dk_176 (dk_at dksX5_sum_2 4 rfl rfl)
abbrev cX5_term : ByteArray := prog_17_method_35_code
def yX5_term : MethodName := ⟨RX5, "term", "()LWeatherWages$Node;"⟩
def dkwX5_term_2 : List UInt8 := [182, 1, 57, 28, 183, 1, 40, 76, 167, 255, 205, 43, 176]
abbrev dktX5_term_2 : List UInt8 := dkwX5_term_2 ++ []
def dkwX5_term_1 : List UInt8 := [180, 0, 46, 16, 37, 160, 0, 30, 42, 180, 0, 46, 146, 61, 42, 182, 0, 90, 187, 1, 38, 89, 43, 42]
abbrev dktX5_term_1 : List UInt8 := dkwX5_term_1 ++ dktX5_term_2
def dkwX5_term_0 : List UInt8 := [42, 182, 1, 57, 76, 42, 180, 0, 46, 16, 42, 159, 0, 21, 42, 180, 0, 46, 16, 47, 159, 0, 12, 42]
abbrev dktX5_term_0 : List UInt8 := dkwX5_term_0 ++ dktX5_term_1
theorem dksX5_term_0 : cX5_term.data.toList.drop 0 = dktX5_term_0 := by decide +kernel
theorem dksX5_term_1 : cX5_term.data.toList.drop 24 = dktX5_term_1 := dk_seg dksX5_term_0 24 rfl rfl
theorem dksX5_term_2 : cX5_term.data.toList.drop 48 = dktX5_term_2 := dk_seg dksX5_term_1 24 rfl rfl
theorem dX5_term_0 : decode cX5_term 0 = .ok (.aload_n 0, 1) := dk_42 (dk_at dksX5_term_0 0 rfl rfl)
theorem dX5_term_1 : decode cX5_term 1 = .ok (.invokevirtual 313, 3) := dk_182 1 57 (dk_at dksX5_term_0 1 rfl rfl)
theorem dX5_term_4 : decode cX5_term 4 = .ok (.astore_n 1, 1) := dk_76 (dk_at dksX5_term_0 4 rfl rfl)
theorem dX5_term_5 : decode cX5_term 5 = .ok (.aload_n 0, 1) := dk_42 (dk_at dksX5_term_0 5 rfl rfl)
theorem dX5_term_6 : decode cX5_term 6 = .ok (.getfield 46, 3) := dk_180 0 46 (dk_at dksX5_term_0 6 rfl rfl)
theorem dX5_term_9 : decode cX5_term 9 = .ok (.bipush 42, 2) := dk_16 42 (dk_at dksX5_term_0 9 rfl rfl)
theorem dX5_term_11 : decode cX5_term 11 = .ok (.if_icmp .eq 21, 3) := dk_159 0 21 (dk_at dksX5_term_0 11 rfl rfl)
theorem dX5_term_14 : decode cX5_term 14 = .ok (.aload_n 0, 1) := dk_42 (dk_at dksX5_term_0 14 rfl rfl)
theorem dX5_term_15 : decode cX5_term 15 = .ok (.getfield 46, 3) := dk_180 0 46 (dk_at dksX5_term_0 15 rfl rfl)
theorem dX5_term_18 : decode cX5_term 18 = .ok (.bipush 47, 2) := dk_16 47 (dk_at dksX5_term_0 18 rfl rfl)
theorem dX5_term_20 : decode cX5_term 20 = .ok (.if_icmp .eq 12, 3) := dk_159 0 12 (dk_at dksX5_term_0 20 rfl rfl)
theorem dX5_term_23 : decode cX5_term 23 = .ok (.aload_n 0, 1) := dk_42 (dk_at dksX5_term_0 23 rfl rfl)
theorem dX5_term_24 : decode cX5_term 24 = .ok (.getfield 46, 3) := dk_180 0 46 (dk_at dksX5_term_1 0 rfl rfl)
theorem dX5_term_27 : decode cX5_term 27 = .ok (.bipush 37, 2) := dk_16 37 (dk_at dksX5_term_1 3 rfl rfl)
theorem dX5_term_29 : decode cX5_term 29 = .ok (.if_icmp .ne 30, 3) := dk_160 0 30 (dk_at dksX5_term_1 5 rfl rfl)
theorem dX5_term_32 : decode cX5_term 32 = .ok (.aload_n 0, 1) := dk_42 (dk_at dksX5_term_1 8 rfl rfl)
theorem dX5_term_33 : decode cX5_term 33 = .ok (.getfield 46, 3) := dk_180 0 46 (dk_at dksX5_term_1 9 rfl rfl)
theorem dX5_term_36 : decode cX5_term 36 = .ok (.i2c, 1) := dk_146 (dk_at dksX5_term_1 12 rfl rfl)
theorem dX5_term_37 : decode cX5_term 37 = .ok (.istore_n 2, 1) := dk_61 (dk_at dksX5_term_1 13 rfl rfl)
theorem dX5_term_38 : decode cX5_term 38 = .ok (.aload_n 0, 1) := dk_42 (dk_at dksX5_term_1 14 rfl rfl)
theorem dX5_term_39 : decode cX5_term 39 = .ok (.invokevirtual 90, 3) := dk_182 0 90 (dk_at dksX5_term_1 15 rfl rfl)
theorem dX5_term_42 : decode cX5_term 42 = .ok (.new 294, 3) := dk_187 1 38 (dk_at dksX5_term_1 18 rfl rfl)
theorem dX5_term_45 : decode cX5_term 45 = .ok (.dup, 1) := dk_89 (dk_at dksX5_term_1 21 rfl rfl)
theorem dX5_term_46 : decode cX5_term 46 = .ok (.aload_n 1, 1) := dk_43 (dk_at dksX5_term_1 22 rfl rfl)
theorem dX5_term_47 : decode cX5_term 47 = .ok (.aload_n 0, 1) := dk_42 (dk_at dksX5_term_1 23 rfl rfl)
theorem dX5_term_48 : decode cX5_term 48 = .ok (.invokevirtual 313, 3) := dk_182 1 57 (dk_at dksX5_term_2 0 rfl rfl)
theorem dX5_term_51 : decode cX5_term 51 = .ok (.iload_n 2, 1) := dk_28 (dk_at dksX5_term_2 3 rfl rfl)
theorem dX5_term_52 : decode cX5_term 52 = .ok (.invokespecial 296, 3) := dk_183 1 40 (dk_at dksX5_term_2 4 rfl rfl)
theorem dX5_term_55 : decode cX5_term 55 = .ok (.astore_n 1, 1) := dk_76 (dk_at dksX5_term_2 7 rfl rfl)
theorem dX5_term_56 : decode cX5_term 56 = .ok (.goto (-51), 3) := dk_167 255 205 (dk_at dksX5_term_2 8 rfl rfl)
theorem dX5_term_59 : decode cX5_term 59 = .ok (.aload_n 1, 1) := dk_43 (dk_at dksX5_term_2 11 rfl rfl)
theorem dX5_term_60 : decode cX5_term 60 = .ok (.areturn, 1) := dk_176 (dk_at dksX5_term_2 12 rfl rfl)
abbrev cX5_unit : ByteArray := prog_17_method_37_code
def yX5_unit : MethodName := ⟨RX5, "unit", "()LWeatherWages$Node;"⟩
def dkwX5_unit_7 : List UInt8 := [183, 1, 89, 167, 0, 4, 43, 77, 42, 182, 0, 90, 44, 176]
abbrev dktX5_unit_7 : List UInt8 := dkwX5_unit_7 ++ []
def dkwX5_unit_6 : List UInt8 := [100, 181, 1, 26, 42, 182, 0, 90, 44, 176, 43, 199, 0, 17, 187, 1, 87, 89, 42, 180, 0, 69]
abbrev dktX5_unit_6 : List UInt8 := dkwX5_unit_6 ++ dktX5_unit_7
def dkwX5_unit_5 : List UInt8 := [182, 1, 32, 77, 42, 180, 0, 46, 16, 41, 159, 0, 8, 42, 182, 0, 96, 191, 42, 89, 180, 1, 26, 4]
abbrev dktX5_unit_5 : List UInt8 := dkwX5_unit_5 ++ dktX5_unit_6
def dkwX5_unit_4 : List UInt8 := [180, 0, 46, 16, 40, 160, 0, 52, 42, 89, 180, 1, 26, 4, 96, 181, 1, 26, 42, 182, 0, 90, 42]
abbrev dktX5_unit_4 : List UInt8 := dkwX5_unit_4 ++ dktX5_unit_5
def dkwX5_unit_3 : List UInt8 := [180, 0, 24, 89, 180, 1, 84, 4, 96, 181, 1, 84, 42, 89, 180, 1, 29, 4, 96, 181, 1, 29, 42]
abbrev dktX5_unit_3 : List UInt8 := dkwX5_unit_3 ++ dktX5_unit_4
def dkwX5_unit_2 : List UInt8 := [42, 180, 0, 46, 16, 40, 160, 0, 17, 42, 180, 1, 26, 16, 6, 164, 0, 8, 42, 182, 0, 96, 191, 42]
abbrev dktX5_unit_2 : List UInt8 := dkwX5_unit_2 ++ dktX5_unit_3
def dkwX5_unit_1 : List UInt8 := [198, 0, 42, 42, 180, 0, 24, 180, 1, 84, 16, 60, 159, 0, 30, 42, 180, 1, 29, 16, 30, 159, 0, 21]
abbrev dktX5_unit_1 : List UInt8 := dkwX5_unit_1 ++ dktX5_unit_2
def dkwX5_unit_0 : List UInt8 := [42, 182, 1, 81, 76, 42, 180, 0, 46, 5, 159, 0, 16, 42, 180, 0, 46, 16, 40, 159, 0, 7, 43]
abbrev dktX5_unit_0 : List UInt8 := dkwX5_unit_0 ++ dktX5_unit_1
theorem dksX5_unit_0 : cX5_unit.data.toList.drop 0 = dktX5_unit_0 := by decide +kernel
theorem dksX5_unit_1 : cX5_unit.data.toList.drop 23 = dktX5_unit_1 := dk_seg dksX5_unit_0 23 rfl rfl
theorem dksX5_unit_2 : cX5_unit.data.toList.drop 47 = dktX5_unit_2 := dk_seg dksX5_unit_1 24 rfl rfl
theorem dksX5_unit_3 : cX5_unit.data.toList.drop 71 = dktX5_unit_3 := dk_seg dksX5_unit_2 24 rfl rfl
theorem dksX5_unit_4 : cX5_unit.data.toList.drop 94 = dktX5_unit_4 := dk_seg dksX5_unit_3 23 rfl rfl
theorem dksX5_unit_5 : cX5_unit.data.toList.drop 117 = dktX5_unit_5 := dk_seg dksX5_unit_4 23 rfl rfl
theorem dksX5_unit_6 : cX5_unit.data.toList.drop 141 = dktX5_unit_6 := dk_seg dksX5_unit_5 24 rfl rfl
theorem dksX5_unit_7 : cX5_unit.data.toList.drop 163 = dktX5_unit_7 := dk_seg dksX5_unit_6 22 rfl rfl
theorem dX5_unit_0 : decode cX5_unit 0 = .ok (.aload_n 0, 1) := dk_42 (dk_at dksX5_unit_0 0 rfl rfl)
theorem dX5_unit_1 : decode cX5_unit 1 = .ok (.invokevirtual 337, 3) := dk_182 1 81 (dk_at dksX5_unit_0 1 rfl rfl)
theorem dX5_unit_4 : decode cX5_unit 4 = .ok (.astore_n 1, 1) := dk_76 (dk_at dksX5_unit_0 4 rfl rfl)
theorem dX5_unit_5 : decode cX5_unit 5 = .ok (.aload_n 0, 1) := dk_42 (dk_at dksX5_unit_0 5 rfl rfl)
theorem dX5_unit_6 : decode cX5_unit 6 = .ok (.getfield 46, 3) := dk_180 0 46 (dk_at dksX5_unit_0 6 rfl rfl)
theorem dX5_unit_9 : decode cX5_unit 9 = .ok (.iconst 2, 1) := dk_5 (dk_at dksX5_unit_0 9 rfl rfl)
theorem dX5_unit_10 : decode cX5_unit 10 = .ok (.if_icmp .eq 16, 3) := dk_159 0 16 (dk_at dksX5_unit_0 10 rfl rfl)
theorem dX5_unit_13 : decode cX5_unit 13 = .ok (.aload_n 0, 1) := dk_42 (dk_at dksX5_unit_0 13 rfl rfl)
theorem dX5_unit_14 : decode cX5_unit 14 = .ok (.getfield 46, 3) := dk_180 0 46 (dk_at dksX5_unit_0 14 rfl rfl)
theorem dX5_unit_17 : decode cX5_unit 17 = .ok (.bipush 40, 2) := dk_16 40 (dk_at dksX5_unit_0 17 rfl rfl)
theorem dX5_unit_19 : decode cX5_unit 19 = .ok (.if_icmp .eq 7, 3) := dk_159 0 7 (dk_at dksX5_unit_0 19 rfl rfl)
theorem dX5_unit_22 : decode cX5_unit 22 = .ok (.aload_n 1, 1) := dk_43 (dk_at dksX5_unit_0 22 rfl rfl)
theorem dX5_unit_23 : decode cX5_unit 23 = .ok (.ifnull 42, 3) := dk_198 0 42 (dk_at dksX5_unit_1 0 rfl rfl)
theorem dX5_unit_26 : decode cX5_unit 26 = .ok (.aload_n 0, 1) := dk_42 (dk_at dksX5_unit_1 3 rfl rfl)
theorem dX5_unit_27 : decode cX5_unit 27 = .ok (.getfield 24, 3) := dk_180 0 24 (dk_at dksX5_unit_1 4 rfl rfl)
theorem dX5_unit_30 : decode cX5_unit 30 = .ok (.getfield 340, 3) := dk_180 1 84 (dk_at dksX5_unit_1 7 rfl rfl)
theorem dX5_unit_33 : decode cX5_unit 33 = .ok (.bipush 60, 2) := dk_16 60 (dk_at dksX5_unit_1 10 rfl rfl)
theorem dX5_unit_35 : decode cX5_unit 35 = .ok (.if_icmp .eq 30, 3) := dk_159 0 30 (dk_at dksX5_unit_1 12 rfl rfl)
theorem dX5_unit_38 : decode cX5_unit 38 = .ok (.aload_n 0, 1) := dk_42 (dk_at dksX5_unit_1 15 rfl rfl)
theorem dX5_unit_39 : decode cX5_unit 39 = .ok (.getfield 285, 3) := dk_180 1 29 (dk_at dksX5_unit_1 16 rfl rfl)
theorem dX5_unit_42 : decode cX5_unit 42 = .ok (.bipush 30, 2) := dk_16 30 (dk_at dksX5_unit_1 19 rfl rfl)
theorem dX5_unit_44 : decode cX5_unit 44 = .ok (.if_icmp .eq 21, 3) := dk_159 0 21 (dk_at dksX5_unit_1 21 rfl rfl)
theorem dX5_unit_47 : decode cX5_unit 47 = .ok (.aload_n 0, 1) := dk_42 (dk_at dksX5_unit_2 0 rfl rfl)
theorem dX5_unit_48 : decode cX5_unit 48 = .ok (.getfield 46, 3) := dk_180 0 46 (dk_at dksX5_unit_2 1 rfl rfl)
theorem dX5_unit_51 : decode cX5_unit 51 = .ok (.bipush 40, 2) := dk_16 40 (dk_at dksX5_unit_2 4 rfl rfl)
theorem dX5_unit_53 : decode cX5_unit 53 = .ok (.if_icmp .ne 17, 3) := dk_160 0 17 (dk_at dksX5_unit_2 6 rfl rfl)
theorem dX5_unit_56 : decode cX5_unit 56 = .ok (.aload_n 0, 1) := dk_42 (dk_at dksX5_unit_2 9 rfl rfl)
theorem dX5_unit_57 : decode cX5_unit 57 = .ok (.getfield 282, 3) := dk_180 1 26 (dk_at dksX5_unit_2 10 rfl rfl)
theorem dX5_unit_60 : decode cX5_unit 60 = .ok (.bipush 6, 2) := dk_16 6 (dk_at dksX5_unit_2 13 rfl rfl)
theorem dX5_unit_62 : decode cX5_unit 62 = .ok (.if_icmp .le 8, 3) := dk_164 0 8 (dk_at dksX5_unit_2 15 rfl rfl)
theorem dX5_unit_65 : decode cX5_unit 65 = .ok (.aload_n 0, 1) := dk_42 (dk_at dksX5_unit_2 18 rfl rfl)
theorem dX5_unit_66 : decode cX5_unit 66 = .ok (.invokevirtual 96, 3) := dk_182 0 96 (dk_at dksX5_unit_2 19 rfl rfl)
theorem dX5_unit_69 : decode cX5_unit 69 = .ok (.athrow, 1) := dk_191 (dk_at dksX5_unit_2 22 rfl rfl)
theorem dX5_unit_70 : decode cX5_unit 70 = .ok (.aload_n 0, 1) := dk_42 (dk_at dksX5_unit_2 23 rfl rfl)
theorem dX5_unit_71 : decode cX5_unit 71 = .ok (.getfield 24, 3) := dk_180 0 24 (dk_at dksX5_unit_3 0 rfl rfl)
theorem dX5_unit_74 : decode cX5_unit 74 = .ok (.dup, 1) := dk_89 (dk_at dksX5_unit_3 3 rfl rfl)
theorem dX5_unit_75 : decode cX5_unit 75 = .ok (.getfield 340, 3) := dk_180 1 84 (dk_at dksX5_unit_3 4 rfl rfl)
theorem dX5_unit_78 : decode cX5_unit 78 = .ok (.iconst 1, 1) := dk_4 (dk_at dksX5_unit_3 7 rfl rfl)
theorem dX5_unit_79 : decode cX5_unit 79 = .ok (.iadd, 1) := dk_96 (dk_at dksX5_unit_3 8 rfl rfl)
theorem dX5_unit_80 : decode cX5_unit 80 = .ok (.putfield 340, 3) := dk_181 1 84 (dk_at dksX5_unit_3 9 rfl rfl)
theorem dX5_unit_83 : decode cX5_unit 83 = .ok (.aload_n 0, 1) := dk_42 (dk_at dksX5_unit_3 12 rfl rfl)
theorem dX5_unit_84 : decode cX5_unit 84 = .ok (.dup, 1) := dk_89 (dk_at dksX5_unit_3 13 rfl rfl)
theorem dX5_unit_85 : decode cX5_unit 85 = .ok (.getfield 285, 3) := dk_180 1 29 (dk_at dksX5_unit_3 14 rfl rfl)
theorem dX5_unit_88 : decode cX5_unit 88 = .ok (.iconst 1, 1) := dk_4 (dk_at dksX5_unit_3 17 rfl rfl)
theorem dX5_unit_89 : decode cX5_unit 89 = .ok (.iadd, 1) := dk_96 (dk_at dksX5_unit_3 18 rfl rfl)
theorem dX5_unit_90 : decode cX5_unit 90 = .ok (.putfield 285, 3) := dk_181 1 29 (dk_at dksX5_unit_3 19 rfl rfl)
theorem dX5_unit_93 : decode cX5_unit 93 = .ok (.aload_n 0, 1) := dk_42 (dk_at dksX5_unit_3 22 rfl rfl)
theorem dX5_unit_94 : decode cX5_unit 94 = .ok (.getfield 46, 3) := dk_180 0 46 (dk_at dksX5_unit_4 0 rfl rfl)
theorem dX5_unit_97 : decode cX5_unit 97 = .ok (.bipush 40, 2) := dk_16 40 (dk_at dksX5_unit_4 3 rfl rfl)
theorem dX5_unit_99 : decode cX5_unit 99 = .ok (.if_icmp .ne 52, 3) := dk_160 0 52 (dk_at dksX5_unit_4 5 rfl rfl)
theorem dX5_unit_102 : decode cX5_unit 102 = .ok (.aload_n 0, 1) := dk_42 (dk_at dksX5_unit_4 8 rfl rfl)
theorem dX5_unit_103 : decode cX5_unit 103 = .ok (.dup, 1) := dk_89 (dk_at dksX5_unit_4 9 rfl rfl)
theorem dX5_unit_104 : decode cX5_unit 104 = .ok (.getfield 282, 3) := dk_180 1 26 (dk_at dksX5_unit_4 10 rfl rfl)
theorem dX5_unit_107 : decode cX5_unit 107 = .ok (.iconst 1, 1) := dk_4 (dk_at dksX5_unit_4 13 rfl rfl)
theorem dX5_unit_108 : decode cX5_unit 108 = .ok (.iadd, 1) := dk_96 (dk_at dksX5_unit_4 14 rfl rfl)
theorem dX5_unit_109 : decode cX5_unit 109 = .ok (.putfield 282, 3) := dk_181 1 26 (dk_at dksX5_unit_4 15 rfl rfl)
theorem dX5_unit_112 : decode cX5_unit 112 = .ok (.aload_n 0, 1) := dk_42 (dk_at dksX5_unit_4 18 rfl rfl)
theorem dX5_unit_113 : decode cX5_unit 113 = .ok (.invokevirtual 90, 3) := dk_182 0 90 (dk_at dksX5_unit_4 19 rfl rfl)
theorem dX5_unit_116 : decode cX5_unit 116 = .ok (.aload_n 0, 1) := dk_42 (dk_at dksX5_unit_4 22 rfl rfl)
theorem dX5_unit_117 : decode cX5_unit 117 = .ok (.invokevirtual 288, 3) := dk_182 1 32 (dk_at dksX5_unit_5 0 rfl rfl)
theorem dX5_unit_120 : decode cX5_unit 120 = .ok (.astore_n 2, 1) := dk_77 (dk_at dksX5_unit_5 3 rfl rfl)
theorem dX5_unit_121 : decode cX5_unit 121 = .ok (.aload_n 0, 1) := dk_42 (dk_at dksX5_unit_5 4 rfl rfl)
theorem dX5_unit_122 : decode cX5_unit 122 = .ok (.getfield 46, 3) := dk_180 0 46 (dk_at dksX5_unit_5 5 rfl rfl)
theorem dX5_unit_125 : decode cX5_unit 125 = .ok (.bipush 41, 2) := dk_16 41 (dk_at dksX5_unit_5 8 rfl rfl)
theorem dX5_unit_127 : decode cX5_unit 127 = .ok (.if_icmp .eq 8, 3) := dk_159 0 8 (dk_at dksX5_unit_5 10 rfl rfl)
theorem dX5_unit_130 : decode cX5_unit 130 = .ok (.aload_n 0, 1) := dk_42 (dk_at dksX5_unit_5 13 rfl rfl)
theorem dX5_unit_131 : decode cX5_unit 131 = .ok (.invokevirtual 96, 3) := dk_182 0 96 (dk_at dksX5_unit_5 14 rfl rfl)
theorem dX5_unit_134 : decode cX5_unit 134 = .ok (.athrow, 1) := dk_191 (dk_at dksX5_unit_5 17 rfl rfl)
theorem dX5_unit_135 : decode cX5_unit 135 = .ok (.aload_n 0, 1) := dk_42 (dk_at dksX5_unit_5 18 rfl rfl)
theorem dX5_unit_136 : decode cX5_unit 136 = .ok (.dup, 1) := dk_89 (dk_at dksX5_unit_5 19 rfl rfl)
theorem dX5_unit_137 : decode cX5_unit 137 = .ok (.getfield 282, 3) := dk_180 1 26 (dk_at dksX5_unit_5 20 rfl rfl)
theorem dX5_unit_140 : decode cX5_unit 140 = .ok (.iconst 1, 1) := dk_4 (dk_at dksX5_unit_5 23 rfl rfl)
theorem dX5_unit_141 : decode cX5_unit 141 = .ok (.isub, 1) := dk_100 (dk_at dksX5_unit_6 0 rfl rfl)
theorem dX5_unit_142 : decode cX5_unit 142 = .ok (.putfield 282, 3) := dk_181 1 26 (dk_at dksX5_unit_6 1 rfl rfl)
theorem dX5_unit_145 : decode cX5_unit 145 = .ok (.aload_n 0, 1) := dk_42 (dk_at dksX5_unit_6 4 rfl rfl)
theorem dX5_unit_146 : decode cX5_unit 146 = .ok (.invokevirtual 90, 3) := dk_182 0 90 (dk_at dksX5_unit_6 5 rfl rfl)
theorem dX5_unit_149 : decode cX5_unit 149 = .ok (.aload_n 2, 1) := dk_44 (dk_at dksX5_unit_6 8 rfl rfl)
theorem dX5_unit_150 : decode cX5_unit 150 = .ok (.areturn, 1) := dk_176 (dk_at dksX5_unit_6 9 rfl rfl)
theorem dX5_unit_151 : decode cX5_unit 151 = .ok (.aload_n 1, 1) := dk_43 (dk_at dksX5_unit_6 10 rfl rfl)
theorem dX5_unit_152 : decode cX5_unit 152 = .ok (.ifnonnull 17, 3) := dk_199 0 17 (dk_at dksX5_unit_6 11 rfl rfl)
theorem dX5_unit_155 : decode cX5_unit 155 = .ok (.new 343, 3) := dk_187 1 87 (dk_at dksX5_unit_6 14 rfl rfl)
theorem dX5_unit_158 : decode cX5_unit 158 = .ok (.dup, 1) := dk_89 (dk_at dksX5_unit_6 17 rfl rfl)
theorem dX5_unit_159 : decode cX5_unit 159 = .ok (.aload_n 0, 1) := dk_42 (dk_at dksX5_unit_6 18 rfl rfl)
theorem dX5_unit_160 : decode cX5_unit 160 = .ok (.getfield 69, 3) := dk_180 0 69 (dk_at dksX5_unit_6 19 rfl rfl)
theorem dX5_unit_163 : decode cX5_unit 163 = .ok (.invokespecial 345, 3) := dk_183 1 89 (dk_at dksX5_unit_7 0 rfl rfl)
theorem dX5_unit_166 : decode cX5_unit 166 = .ok (.goto 4, 3) := dk_167 0 4 (dk_at dksX5_unit_7 3 rfl rfl)
theorem dX5_unit_169 : decode cX5_unit 169 = .ok (.aload_n 1, 1) := dk_43 (dk_at dksX5_unit_7 6 rfl rfl)
theorem dX5_unit_170 : decode cX5_unit 170 = .ok (.astore_n 2, 1) := dk_77 (dk_at dksX5_unit_7 7 rfl rfl)
theorem dX5_unit_171 : decode cX5_unit 171 = .ok (.aload_n 0, 1) := dk_42 (dk_at dksX5_unit_7 8 rfl rfl)
theorem dX5_unit_172 : decode cX5_unit 172 = .ok (.invokevirtual 90, 3) := dk_182 0 90 (dk_at dksX5_unit_7 9 rfl rfl)
theorem dX5_unit_175 : decode cX5_unit 175 = .ok (.aload_n 2, 1) := dk_44 (dk_at dksX5_unit_7 12 rfl rfl)
theorem dX5_unit_176 : decode cX5_unit 176 = .ok (.areturn, 1) := dk_176 (dk_at dksX5_unit_7 13 rfl rfl)
abbrev cX5_asked : ByteArray := prog_17_method_36_code
def yX5_asked : MethodName := ⟨RX5, "asked", "()LWeatherWages$Node;"⟩
def dkwX5_asked_8 : List UInt8 := [1, 176]
abbrev dktX5_asked_8 : List UInt8 := dkwX5_asked_8 ++ []
def dkwX5_asked_7 : List UInt8 := [178, 1, 60, 176, 178, 1, 66, 176, 178, 1, 69, 176, 178, 1, 72, 176, 178, 1, 75, 176, 178, 1, 78, 176]
abbrev dktX5_asked_7 : List UInt8 := dkwX5_asked_7 ++ dktX5_asked_8
def dkwX5_asked_6 : List UInt8 := [170, 0, 0, 0, 0, 62, 0, 0, 0, 0, 0, 0, 0, 5, 0, 0, 0, 38, 0, 0, 0, 42, 0, 0, 0, 46, 0, 0, 0, 50, 0, 0, 0, 54, 0, 0, 0, 58]
abbrev dktX5_asked_6 : List UInt8 := dkwX5_asked_6 ++ dktX5_asked_7
def dkwX5_asked_5 : List UInt8 := [18, 138, 182, 0, 80, 153, 0, 5, 8, 61, 28]
abbrev dktX5_asked_5 : List UInt8 := dkwX5_asked_5 ++ dktX5_asked_6
def dkwX5_asked_4 : List UInt8 := [153, 0, 33, 6, 61, 167, 0, 28, 43, 18, 136, 182, 0, 80, 153, 0, 19, 7, 61, 167, 0, 14, 43]
abbrev dktX5_asked_4 : List UInt8 := dkwX5_asked_4 ++ dktX5_asked_5
def dkwX5_asked_3 : List UInt8 := [61, 167, 0, 56, 43, 18, 134, 182, 0, 80, 153, 0, 47, 5, 61, 167, 0, 42, 43, 18, 108, 182, 0, 80]
abbrev dktX5_asked_3 : List UInt8 := dkwX5_asked_3 ++ dktX5_asked_4
def dkwX5_asked_2 : List UInt8 := [43, 18, 130, 182, 0, 80, 153, 0, 75, 3, 61, 167, 0, 70, 43, 18, 132, 182, 0, 80, 153, 0, 61, 4]
abbrev dktX5_asked_2 : List UInt8 := dkwX5_asked_2 ++ dktX5_asked_3
def dkwX5_asked_1 : List UInt8 := [171, 0, 0, 0, 0, 0, 140, 0, 0, 0, 6, 201, 251, 68, 116, 0, 0, 0, 73, 0, 46, 186, 144, 0, 0, 0, 101, 0, 52, 140, 225, 0, 0, 0, 129, 0, 55, 159, 244, 0, 0, 0, 115, 5, 206, 210, 176, 0, 0, 0, 59, 6, 147, 133, 103, 0, 0, 0, 87]
abbrev dktX5_asked_1 : List UInt8 := dkwX5_asked_1 ++ dktX5_asked_2
def dkwX5_asked_0 : List UInt8 := [42, 180, 0, 46, 4, 159, 0, 5, 1, 176, 42, 180, 0, 17, 76, 2, 61, 43, 182, 0, 100]
abbrev dktX5_asked_0 : List UInt8 := dkwX5_asked_0 ++ dktX5_asked_1
theorem dksX5_asked_0 : cX5_asked.data.toList.drop 0 = dktX5_asked_0 := by decide +kernel
theorem dksX5_asked_1 : cX5_asked.data.toList.drop 21 = dktX5_asked_1 := dk_seg dksX5_asked_0 21 rfl rfl
theorem dksX5_asked_2 : cX5_asked.data.toList.drop 80 = dktX5_asked_2 := dk_seg dksX5_asked_1 59 rfl rfl
theorem dksX5_asked_3 : cX5_asked.data.toList.drop 104 = dktX5_asked_3 := dk_seg dksX5_asked_2 24 rfl rfl
theorem dksX5_asked_4 : cX5_asked.data.toList.drop 128 = dktX5_asked_4 := dk_seg dksX5_asked_3 24 rfl rfl
theorem dksX5_asked_5 : cX5_asked.data.toList.drop 151 = dktX5_asked_5 := dk_seg dksX5_asked_4 23 rfl rfl
theorem dksX5_asked_6 : cX5_asked.data.toList.drop 162 = dktX5_asked_6 := dk_seg dksX5_asked_5 11 rfl rfl
theorem dksX5_asked_7 : cX5_asked.data.toList.drop 200 = dktX5_asked_7 := dk_seg dksX5_asked_6 38 rfl rfl
theorem dksX5_asked_8 : cX5_asked.data.toList.drop 224 = dktX5_asked_8 := dk_seg dksX5_asked_7 24 rfl rfl
theorem dX5_asked_0 : decode cX5_asked 0 = .ok (.aload_n 0, 1) := dk_42 (dk_at dksX5_asked_0 0 rfl rfl)
theorem dX5_asked_1 : decode cX5_asked 1 = .ok (.getfield 46, 3) := dk_180 0 46 (dk_at dksX5_asked_0 1 rfl rfl)
theorem dX5_asked_4 : decode cX5_asked 4 = .ok (.iconst 1, 1) := dk_4 (dk_at dksX5_asked_0 4 rfl rfl)
theorem dX5_asked_5 : decode cX5_asked 5 = .ok (.if_icmp .eq 5, 3) := dk_159 0 5 (dk_at dksX5_asked_0 5 rfl rfl)
theorem dX5_asked_8 : decode cX5_asked 8 = .ok (.aconst_null, 1) := dk_1 (dk_at dksX5_asked_0 8 rfl rfl)
theorem dX5_asked_9 : decode cX5_asked 9 = .ok (.areturn, 1) := dk_176 (dk_at dksX5_asked_0 9 rfl rfl)
theorem dX5_asked_10 : decode cX5_asked 10 = .ok (.aload_n 0, 1) := dk_42 (dk_at dksX5_asked_0 10 rfl rfl)
theorem dX5_asked_11 : decode cX5_asked 11 = .ok (.getfield 17, 3) := dk_180 0 17 (dk_at dksX5_asked_0 11 rfl rfl)
theorem dX5_asked_14 : decode cX5_asked 14 = .ok (.astore_n 1, 1) := dk_76 (dk_at dksX5_asked_0 14 rfl rfl)
theorem dX5_asked_15 : decode cX5_asked 15 = .ok (.iconst (-1), 1) := dk_2 (dk_at dksX5_asked_0 15 rfl rfl)
theorem dX5_asked_16 : decode cX5_asked 16 = .ok (.istore_n 2, 1) := dk_61 (dk_at dksX5_asked_0 16 rfl rfl)
theorem dX5_asked_17 : decode cX5_asked 17 = .ok (.aload_n 1, 1) := dk_43 (dk_at dksX5_asked_0 17 rfl rfl)
theorem dX5_asked_18 : decode cX5_asked 18 = .ok (.invokevirtual 100, 3) := dk_182 0 100 (dk_at dksX5_asked_0 18 rfl rfl)
theorem dX5_asked_21 : decode cX5_asked 21 = .ok (.lookupswitch 140 #[(-906279820, 73), (3062416, 101), (3443937, 129), (3645428, 115), (97440432, 59), (110331239, 87)], 59) := by decide +kernel
theorem dX5_asked_80 : decode cX5_asked 80 = .ok (.aload_n 1, 1) := dk_43 (dk_at dksX5_asked_2 0 rfl rfl)
theorem dX5_asked_81 : decode cX5_asked 81 = .ok (.ldc 130, 2) := dk_18 130 (dk_at dksX5_asked_2 1 rfl rfl)
theorem dX5_asked_83 : decode cX5_asked 83 = .ok (.invokevirtual 80, 3) := dk_182 0 80 (dk_at dksX5_asked_2 3 rfl rfl)
theorem dX5_asked_86 : decode cX5_asked 86 = .ok (.ifCond .eq 75, 3) := dk_153 0 75 (dk_at dksX5_asked_2 6 rfl rfl)
theorem dX5_asked_89 : decode cX5_asked 89 = .ok (.iconst 0, 1) := dk_3 (dk_at dksX5_asked_2 9 rfl rfl)
theorem dX5_asked_90 : decode cX5_asked 90 = .ok (.istore_n 2, 1) := dk_61 (dk_at dksX5_asked_2 10 rfl rfl)
theorem dX5_asked_91 : decode cX5_asked 91 = .ok (.goto 70, 3) := dk_167 0 70 (dk_at dksX5_asked_2 11 rfl rfl)
theorem dX5_asked_94 : decode cX5_asked 94 = .ok (.aload_n 1, 1) := dk_43 (dk_at dksX5_asked_2 14 rfl rfl)
theorem dX5_asked_95 : decode cX5_asked 95 = .ok (.ldc 132, 2) := dk_18 132 (dk_at dksX5_asked_2 15 rfl rfl)
theorem dX5_asked_97 : decode cX5_asked 97 = .ok (.invokevirtual 80, 3) := dk_182 0 80 (dk_at dksX5_asked_2 17 rfl rfl)
theorem dX5_asked_100 : decode cX5_asked 100 = .ok (.ifCond .eq 61, 3) := dk_153 0 61 (dk_at dksX5_asked_2 20 rfl rfl)
theorem dX5_asked_103 : decode cX5_asked 103 = .ok (.iconst 1, 1) := dk_4 (dk_at dksX5_asked_2 23 rfl rfl)
theorem dX5_asked_104 : decode cX5_asked 104 = .ok (.istore_n 2, 1) := dk_61 (dk_at dksX5_asked_3 0 rfl rfl)
theorem dX5_asked_105 : decode cX5_asked 105 = .ok (.goto 56, 3) := dk_167 0 56 (dk_at dksX5_asked_3 1 rfl rfl)
theorem dX5_asked_108 : decode cX5_asked 108 = .ok (.aload_n 1, 1) := dk_43 (dk_at dksX5_asked_3 4 rfl rfl)
theorem dX5_asked_109 : decode cX5_asked 109 = .ok (.ldc 134, 2) := dk_18 134 (dk_at dksX5_asked_3 5 rfl rfl)
theorem dX5_asked_111 : decode cX5_asked 111 = .ok (.invokevirtual 80, 3) := dk_182 0 80 (dk_at dksX5_asked_3 7 rfl rfl)
theorem dX5_asked_114 : decode cX5_asked 114 = .ok (.ifCond .eq 47, 3) := dk_153 0 47 (dk_at dksX5_asked_3 10 rfl rfl)
theorem dX5_asked_117 : decode cX5_asked 117 = .ok (.iconst 2, 1) := dk_5 (dk_at dksX5_asked_3 13 rfl rfl)
theorem dX5_asked_118 : decode cX5_asked 118 = .ok (.istore_n 2, 1) := dk_61 (dk_at dksX5_asked_3 14 rfl rfl)
theorem dX5_asked_119 : decode cX5_asked 119 = .ok (.goto 42, 3) := dk_167 0 42 (dk_at dksX5_asked_3 15 rfl rfl)
theorem dX5_asked_122 : decode cX5_asked 122 = .ok (.aload_n 1, 1) := dk_43 (dk_at dksX5_asked_3 18 rfl rfl)
theorem dX5_asked_123 : decode cX5_asked 123 = .ok (.ldc 108, 2) := dk_18 108 (dk_at dksX5_asked_3 19 rfl rfl)
theorem dX5_asked_125 : decode cX5_asked 125 = .ok (.invokevirtual 80, 3) := dk_182 0 80 (dk_at dksX5_asked_3 21 rfl rfl)
theorem dX5_asked_128 : decode cX5_asked 128 = .ok (.ifCond .eq 33, 3) := dk_153 0 33 (dk_at dksX5_asked_4 0 rfl rfl)
theorem dX5_asked_131 : decode cX5_asked 131 = .ok (.iconst 3, 1) := dk_6 (dk_at dksX5_asked_4 3 rfl rfl)
theorem dX5_asked_132 : decode cX5_asked 132 = .ok (.istore_n 2, 1) := dk_61 (dk_at dksX5_asked_4 4 rfl rfl)
theorem dX5_asked_133 : decode cX5_asked 133 = .ok (.goto 28, 3) := dk_167 0 28 (dk_at dksX5_asked_4 5 rfl rfl)
theorem dX5_asked_136 : decode cX5_asked 136 = .ok (.aload_n 1, 1) := dk_43 (dk_at dksX5_asked_4 8 rfl rfl)
theorem dX5_asked_137 : decode cX5_asked 137 = .ok (.ldc 136, 2) := dk_18 136 (dk_at dksX5_asked_4 9 rfl rfl)
theorem dX5_asked_139 : decode cX5_asked 139 = .ok (.invokevirtual 80, 3) := dk_182 0 80 (dk_at dksX5_asked_4 11 rfl rfl)
theorem dX5_asked_142 : decode cX5_asked 142 = .ok (.ifCond .eq 19, 3) := dk_153 0 19 (dk_at dksX5_asked_4 14 rfl rfl)
theorem dX5_asked_145 : decode cX5_asked 145 = .ok (.iconst 4, 1) := dk_7 (dk_at dksX5_asked_4 17 rfl rfl)
theorem dX5_asked_146 : decode cX5_asked 146 = .ok (.istore_n 2, 1) := dk_61 (dk_at dksX5_asked_4 18 rfl rfl)
theorem dX5_asked_147 : decode cX5_asked 147 = .ok (.goto 14, 3) := dk_167 0 14 (dk_at dksX5_asked_4 19 rfl rfl)
theorem dX5_asked_150 : decode cX5_asked 150 = .ok (.aload_n 1, 1) := dk_43 (dk_at dksX5_asked_4 22 rfl rfl)
theorem dX5_asked_151 : decode cX5_asked 151 = .ok (.ldc 138, 2) := dk_18 138 (dk_at dksX5_asked_5 0 rfl rfl)
theorem dX5_asked_153 : decode cX5_asked 153 = .ok (.invokevirtual 80, 3) := dk_182 0 80 (dk_at dksX5_asked_5 2 rfl rfl)
theorem dX5_asked_156 : decode cX5_asked 156 = .ok (.ifCond .eq 5, 3) := dk_153 0 5 (dk_at dksX5_asked_5 5 rfl rfl)
theorem dX5_asked_159 : decode cX5_asked 159 = .ok (.iconst 5, 1) := dk_8 (dk_at dksX5_asked_5 8 rfl rfl)
theorem dX5_asked_160 : decode cX5_asked 160 = .ok (.istore_n 2, 1) := dk_61 (dk_at dksX5_asked_5 9 rfl rfl)
theorem dX5_asked_161 : decode cX5_asked 161 = .ok (.iload_n 2, 1) := dk_28 (dk_at dksX5_asked_5 10 rfl rfl)
theorem dX5_asked_162 : decode cX5_asked 162 = .ok (.tableswitch 62 0 5 #[38, 42, 46, 50, 54, 58], 38) := by decide +kernel
theorem dX5_asked_200 : decode cX5_asked 200 = .ok (.getstatic 316, 3) := dk_178 1 60 (dk_at dksX5_asked_7 0 rfl rfl)
theorem dX5_asked_203 : decode cX5_asked 203 = .ok (.areturn, 1) := dk_176 (dk_at dksX5_asked_7 3 rfl rfl)
theorem dX5_asked_204 : decode cX5_asked 204 = .ok (.getstatic 322, 3) := dk_178 1 66 (dk_at dksX5_asked_7 4 rfl rfl)
theorem dX5_asked_207 : decode cX5_asked 207 = .ok (.areturn, 1) := dk_176 (dk_at dksX5_asked_7 7 rfl rfl)
theorem dX5_asked_208 : decode cX5_asked 208 = .ok (.getstatic 325, 3) := dk_178 1 69 (dk_at dksX5_asked_7 8 rfl rfl)
theorem dX5_asked_211 : decode cX5_asked 211 = .ok (.areturn, 1) := dk_176 (dk_at dksX5_asked_7 11 rfl rfl)
theorem dX5_asked_212 : decode cX5_asked 212 = .ok (.getstatic 328, 3) := dk_178 1 72 (dk_at dksX5_asked_7 12 rfl rfl)
theorem dX5_asked_215 : decode cX5_asked 215 = .ok (.areturn, 1) := dk_176 (dk_at dksX5_asked_7 15 rfl rfl)
theorem dX5_asked_216 : decode cX5_asked 216 = .ok (.getstatic 331, 3) := dk_178 1 75 (dk_at dksX5_asked_7 16 rfl rfl)
theorem dX5_asked_219 : decode cX5_asked 219 = .ok (.areturn, 1) := dk_176 (dk_at dksX5_asked_7 19 rfl rfl)
theorem dX5_asked_220 : decode cX5_asked 220 = .ok (.getstatic 334, 3) := dk_178 1 78 (dk_at dksX5_asked_7 20 rfl rfl)
theorem dX5_asked_223 : decode cX5_asked 223 = .ok (.areturn, 1) := dk_176 (dk_at dksX5_asked_7 23 rfl rfl)
theorem dX5_asked_224 : decode cX5_asked 224 = .ok (.aconst_null, 1) := dk_1 (dk_at dksX5_asked_8 0 rfl rfl)
theorem dX5_asked_225 : decode cX5_asked 225 = .ok (.areturn, 1) := dk_176 (dk_at dksX5_asked_8 1 rfl rfl)
abbrev cX5_hours : ByteArray := prog_17_method_28_code
def yX5_hours : MethodName := ⟨RX5, "hours", "()V"⟩
def dkwX5_hours_0 : List UInt8 := [42, 182, 0, 90, 42, 4, 181, 0, 201, 42, 180, 0, 24, 42, 4, 16, 8, 182, 0, 225, 181, 1, 21, 177]
abbrev dktX5_hours_0 : List UInt8 := dkwX5_hours_0 ++ []
theorem dksX5_hours_0 : cX5_hours.data.toList.drop 0 = dktX5_hours_0 := by decide +kernel
theorem dX5_hours_0 : decode cX5_hours 0 = .ok (.aload_n 0, 1) := dk_42 (dk_at dksX5_hours_0 0 rfl rfl)
theorem dX5_hours_1 : decode cX5_hours 1 = .ok (.invokevirtual 90, 3) := dk_182 0 90 (dk_at dksX5_hours_0 1 rfl rfl)
theorem dX5_hours_4 : decode cX5_hours 4 = .ok (.aload_n 0, 1) := dk_42 (dk_at dksX5_hours_0 4 rfl rfl)
theorem dX5_hours_5 : decode cX5_hours 5 = .ok (.iconst 1, 1) := dk_4 (dk_at dksX5_hours_0 5 rfl rfl)
theorem dX5_hours_6 : decode cX5_hours 6 = .ok (.putfield 201, 3) := dk_181 0 201 (dk_at dksX5_hours_0 6 rfl rfl)
theorem dX5_hours_9 : decode cX5_hours 9 = .ok (.aload_n 0, 1) := dk_42 (dk_at dksX5_hours_0 9 rfl rfl)
theorem dX5_hours_10 : decode cX5_hours 10 = .ok (.getfield 24, 3) := dk_180 0 24 (dk_at dksX5_hours_0 10 rfl rfl)
theorem dX5_hours_13 : decode cX5_hours 13 = .ok (.aload_n 0, 1) := dk_42 (dk_at dksX5_hours_0 13 rfl rfl)
theorem dX5_hours_14 : decode cX5_hours 14 = .ok (.iconst 1, 1) := dk_4 (dk_at dksX5_hours_0 14 rfl rfl)
theorem dX5_hours_15 : decode cX5_hours 15 = .ok (.bipush 8, 2) := dk_16 8 (dk_at dksX5_hours_0 15 rfl rfl)
theorem dX5_hours_17 : decode cX5_hours 17 = .ok (.invokevirtual 225, 3) := dk_182 0 225 (dk_at dksX5_hours_0 17 rfl rfl)
theorem dX5_hours_20 : decode cX5_hours 20 = .ok (.putfield 277, 3) := dk_181 1 21 (dk_at dksX5_hours_0 20 rfl rfl)
theorem dX5_hours_23 : decode cX5_hours 23 = .ok (.return_, 1) := dk_177 (dk_at dksX5_hours_0 23 rfl rfl)
abbrev cX5_draw : ByteArray := prog_17_method_29_code
def yX5_draw : MethodName := ⟨RX5, "draw", "()V"⟩
def dkwX5_draw_1 : List UInt8 := [177]
abbrev dktX5_draw_1 : List UInt8 := dkwX5_draw_1 ++ []
def dkwX5_draw_0 : List UInt8 := [42, 182, 0, 90, 42, 4, 181, 0, 207, 42, 180, 0, 24, 42, 3, 17, 3, 231, 182, 0, 225, 181, 1, 23]
abbrev dktX5_draw_0 : List UInt8 := dkwX5_draw_0 ++ dktX5_draw_1
theorem dksX5_draw_0 : cX5_draw.data.toList.drop 0 = dktX5_draw_0 := by decide +kernel
theorem dksX5_draw_1 : cX5_draw.data.toList.drop 24 = dktX5_draw_1 := dk_seg dksX5_draw_0 24 rfl rfl
theorem dX5_draw_0 : decode cX5_draw 0 = .ok (.aload_n 0, 1) := dk_42 (dk_at dksX5_draw_0 0 rfl rfl)
theorem dX5_draw_1 : decode cX5_draw 1 = .ok (.invokevirtual 90, 3) := dk_182 0 90 (dk_at dksX5_draw_0 1 rfl rfl)
theorem dX5_draw_4 : decode cX5_draw 4 = .ok (.aload_n 0, 1) := dk_42 (dk_at dksX5_draw_0 4 rfl rfl)
theorem dX5_draw_5 : decode cX5_draw 5 = .ok (.iconst 1, 1) := dk_4 (dk_at dksX5_draw_0 5 rfl rfl)
theorem dX5_draw_6 : decode cX5_draw 6 = .ok (.putfield 207, 3) := dk_181 0 207 (dk_at dksX5_draw_0 6 rfl rfl)
theorem dX5_draw_9 : decode cX5_draw 9 = .ok (.aload_n 0, 1) := dk_42 (dk_at dksX5_draw_0 9 rfl rfl)
theorem dX5_draw_10 : decode cX5_draw 10 = .ok (.getfield 24, 3) := dk_180 0 24 (dk_at dksX5_draw_0 10 rfl rfl)
theorem dX5_draw_13 : decode cX5_draw 13 = .ok (.aload_n 0, 1) := dk_42 (dk_at dksX5_draw_0 13 rfl rfl)
theorem dX5_draw_14 : decode cX5_draw 14 = .ok (.iconst 0, 1) := dk_3 (dk_at dksX5_draw_0 14 rfl rfl)
theorem dX5_draw_15 : decode cX5_draw 15 = .ok (.sipush 999, 3) := dk_17 3 231 (dk_at dksX5_draw_0 15 rfl rfl)
theorem dX5_draw_18 : decode cX5_draw 18 = .ok (.invokevirtual 225, 3) := dk_182 0 225 (dk_at dksX5_draw_0 18 rfl rfl)
theorem dX5_draw_21 : decode cX5_draw 21 = .ok (.putfield 279, 3) := dk_181 1 23 (dk_at dksX5_draw_0 21 rfl rfl)
theorem dX5_draw_24 : decode cX5_draw 24 = .ok (.return_, 1) := dk_177 (dk_at dksX5_draw_1 0 rfl rfl)
theorem q151 : (Jvm.Cond.initialized "WeatherWages$Reader") ∈ lw_all := lw_g (lw_at lw_m1 11 rfl) rfl
theorem q254 : (Jvm.Cond.fieldLink "WeatherWages$Reader" (173 : Nat) "WeatherWages$Book" "kinds" "Ljava/util/ArrayList;") ∈ lw_all := lw_g (lw_at lw_m1 114 rfl) rfl
theorem q258 : (Jvm.Cond.fieldLink "WeatherWages$Reader" (150 : Nat) "WeatherWages$Book" "men" "Ljava/util/ArrayList;") ∈ lw_all := lw_g (lw_at lw_m1 118 rfl) rfl
theorem q260 : (Jvm.Cond.fieldLink "WeatherWages$Reader" (262 : Nat) "WeatherWages$Book" "rates" "Ljava/util/ArrayList;") ∈ lw_all := lw_g (lw_at lw_m1 120 rfl) rfl
theorem q263 : (Jvm.Cond.fieldLink "WeatherWages$Reader" (270 : Nat) "WeatherWages$Book" "books" "[I") ∈ lw_all := lw_g (lw_at lw_m1 123 rfl) rfl
theorem q267 : (Jvm.Cond.fieldLink "WeatherWages$Reader" (196 : Nat) "WeatherWages$Book" "grow" "LWeatherWages$Node;") ∈ lw_all := lw_g (lw_at lw_m1 127 rfl) rfl
theorem q268 : (Jvm.Cond.fieldLink "WeatherWages$Reader" (191 : Nat) "WeatherWages$Book" "bookMany" "I") ∈ lw_all := lw_g (lw_at lw_m1 128 rfl) rfl
theorem q272 : (Jvm.Cond.fieldLink "WeatherWages$Reader" (277 : Nat) "WeatherWages$Book" "hours" "I") ∈ lw_all := lw_g (lw_at lw_m1 132 rfl) rfl
theorem q274 : (Jvm.Cond.fieldLink "WeatherWages$Reader" (279 : Nat) "WeatherWages$Book" "seed" "I") ∈ lw_all := lw_g (lw_at lw_m1 134 rfl) rfl
theorem q275 : (Jvm.Cond.fieldLink "WeatherWages$Reader" (340 : Nat) "WeatherWages$Book" "units" "I") ∈ lw_all := lw_g (lw_at lw_m1 135 rfl) rfl
theorem q358 : (Jvm.Cond.fieldLinkNest "WeatherWages$Reader" (35 : Nat) "WeatherWages" "tape" "[B" "WeatherWages") ∈ lw_tbl := lw_at lw_m1 218 rfl
theorem q359 : (Jvm.Cond.fieldLinkNest "WeatherWages$Reader" (32 : Nat) "WeatherWages" "taped" "I" "WeatherWages") ∈ lw_tbl := lw_at lw_m1 219 rfl
theorem q466 : (Jvm.Cond.instantiable "WeatherWages$Reader" (11 : Nat)) ∈ lw_all := lw_g (lw_at lw_m2 86 rfl) rfl
theorem q468 : (Jvm.Cond.instanceMethod ({ cls := "WeatherWages$Reader", name := "<init>", desc := "(LWeatherWages;)V" } : Jvm.MethodName)) ∈ lw_all := lw_g (lw_at lw_m2 88 rfl) rfl
theorem q469 : (Jvm.Cond.code ({ cls := "WeatherWages$Reader", name := "<init>", desc := "(LWeatherWages;)V" } : Jvm.MethodName) prog_17_method_1_code (2 : Nat) (Option.none : Option Jvm.ClassFile.FieldType)) ∈ lw_all := lw_g (lw_at lw_m2 89 rfl) rfl
theorem q470 : (Jvm.Cond.methodLink "WeatherWages$Reader" (9 : Nat) ({ cls := "java/lang/Object", name := "<init>", desc := "()V" } : Jvm.MethodName)) ∈ lw_all := lw_g (lw_at lw_m2 90 rfl) rfl
theorem q471 : (Jvm.Cond.stringRef "WeatherWages$Reader" (15 : Nat) "") ∈ lw_tbl := lw_at lw_m2 91 rfl
theorem q472 : (Jvm.Cond.classLink "WeatherWages$Reader" (21 : Nat) "WeatherWages$Book") ∈ lw_all := lw_g (lw_at lw_m2 92 rfl) rfl
theorem q473 : (Jvm.Cond.methodLinkNest "WeatherWages$Reader" (23 : Nat) ({ cls := "WeatherWages$Book", name := "<init>", desc := "()V" } : Jvm.MethodName) "WeatherWages") ∈ lw_tbl := lw_at lw_m2 93 rfl
theorem q474 : (Jvm.Cond.fieldLink "WeatherWages$Reader" (28 : Nat) "WeatherWages$Reader" "at" "I") ∈ lw_all := lw_g (lw_at lw_m2 94 rfl) rfl
theorem q475 : (Jvm.Cond.fieldLink "WeatherWages$Reader" (46 : Nat) "WeatherWages$Reader" "sort" "I") ∈ lw_all := lw_g (lw_at lw_m2 95 rfl) rfl
theorem q476 : (Jvm.Cond.fieldLink "WeatherWages$Reader" (43 : Nat) "WeatherWages$Reader" "place" "I") ∈ lw_all := lw_g (lw_at lw_m2 96 rfl) rfl
theorem q477 : (Jvm.Cond.fieldLink "WeatherWages$Reader" (69 : Nat) "WeatherWages$Reader" "number" "I") ∈ lw_all := lw_g (lw_at lw_m2 97 rfl) rfl
theorem q478 : (Jvm.Cond.fieldLink "WeatherWages$Reader" (282 : Nat) "WeatherWages$Reader" "deep" "I") ∈ lw_all := lw_g (lw_at lw_m2 98 rfl) rfl
theorem q479 : (Jvm.Cond.fieldLink "WeatherWages$Reader" (285 : Nat) "WeatherWages$Reader" "own" "I") ∈ lw_all := lw_g (lw_at lw_m2 99 rfl) rfl
theorem q480 : (Jvm.Cond.fieldLink "WeatherWages$Reader" (201 : Nat) "WeatherWages$Reader" "hasHours" "Z") ∈ lw_all := lw_g (lw_at lw_m2 100 rfl) rfl
theorem q481 : (Jvm.Cond.fieldLink "WeatherWages$Reader" (207 : Nat) "WeatherWages$Reader" "hasDraw" "Z") ∈ lw_all := lw_g (lw_at lw_m2 101 rfl) rfl
theorem q482 : (Jvm.Cond.fieldLink "WeatherWages$Reader" (17 : Nat) "WeatherWages$Reader" "word" "Ljava/lang/String;") ∈ lw_all := lw_g (lw_at lw_m2 102 rfl) rfl
theorem q483 : (Jvm.Cond.fieldLink "WeatherWages$Reader" (24 : Nat) "WeatherWages$Reader" "made" "LWeatherWages$Book;") ∈ lw_all := lw_g (lw_at lw_m2 103 rfl) rfl
theorem q484 : (Jvm.Cond.fieldLink "WeatherWages$Reader" (3 : Nat) "WeatherWages$Reader" "this$0" "LWeatherWages;") ∈ lw_all := lw_g (lw_at lw_m2 104 rfl) rfl
theorem q485 : (Jvm.Cond.lays "WeatherWages$Reader" "WeatherWages$Reader" "at" "I") ∈ lw_all := lw_g (lw_at lw_m2 105 rfl) rfl
theorem q486 : (Jvm.Cond.soleField "WeatherWages$Reader" "at") ∈ lw_all := lw_g (lw_at lw_m2 106 rfl) rfl
theorem q487 : (Jvm.Cond.lays "WeatherWages$Reader" "WeatherWages$Reader" "sort" "I") ∈ lw_all := lw_g (lw_at lw_m2 107 rfl) rfl
theorem q488 : (Jvm.Cond.soleField "WeatherWages$Reader" "sort") ∈ lw_all := lw_g (lw_at lw_m2 108 rfl) rfl
theorem q489 : (Jvm.Cond.lays "WeatherWages$Reader" "WeatherWages$Reader" "place" "I") ∈ lw_all := lw_g (lw_at lw_m2 109 rfl) rfl
theorem q490 : (Jvm.Cond.soleField "WeatherWages$Reader" "place") ∈ lw_all := lw_g (lw_at lw_m2 110 rfl) rfl
theorem q491 : (Jvm.Cond.lays "WeatherWages$Reader" "WeatherWages$Reader" "number" "I") ∈ lw_all := lw_g (lw_at lw_m2 111 rfl) rfl
theorem q492 : (Jvm.Cond.soleField "WeatherWages$Reader" "number") ∈ lw_all := lw_g (lw_at lw_m2 112 rfl) rfl
theorem q493 : (Jvm.Cond.lays "WeatherWages$Reader" "WeatherWages$Reader" "deep" "I") ∈ lw_all := lw_g (lw_at lw_m2 113 rfl) rfl
theorem q494 : (Jvm.Cond.soleField "WeatherWages$Reader" "deep") ∈ lw_all := lw_g (lw_at lw_m2 114 rfl) rfl
theorem q495 : (Jvm.Cond.lays "WeatherWages$Reader" "WeatherWages$Reader" "own" "I") ∈ lw_all := lw_g (lw_at lw_m2 115 rfl) rfl
theorem q496 : (Jvm.Cond.soleField "WeatherWages$Reader" "own") ∈ lw_all := lw_g (lw_at lw_m2 116 rfl) rfl
theorem q497 : (Jvm.Cond.lays "WeatherWages$Reader" "WeatherWages$Reader" "hasHours" "Z") ∈ lw_all := lw_g (lw_at lw_m2 117 rfl) rfl
theorem q498 : (Jvm.Cond.soleField "WeatherWages$Reader" "hasHours") ∈ lw_all := lw_g (lw_at lw_m2 118 rfl) rfl
theorem q499 : (Jvm.Cond.lays "WeatherWages$Reader" "WeatherWages$Reader" "hasDraw" "Z") ∈ lw_all := lw_g (lw_at lw_m2 119 rfl) rfl
theorem q500 : (Jvm.Cond.soleField "WeatherWages$Reader" "hasDraw") ∈ lw_all := lw_g (lw_at lw_m2 120 rfl) rfl
theorem q501 : (Jvm.Cond.lays "WeatherWages$Reader" "WeatherWages$Reader" "word" "Ljava/lang/String;") ∈ lw_all := lw_g (lw_at lw_m2 121 rfl) rfl
theorem q502 : (Jvm.Cond.soleField "WeatherWages$Reader" "word") ∈ lw_all := lw_g (lw_at lw_m2 122 rfl) rfl
theorem q503 : (Jvm.Cond.laysFinal "WeatherWages$Reader" "WeatherWages$Reader" "made" "LWeatherWages$Book;") ∈ lw_all := lw_g (lw_at lw_m2 123 rfl) rfl
theorem q504 : (Jvm.Cond.soleField "WeatherWages$Reader" "made") ∈ lw_all := lw_g (lw_at lw_m2 124 rfl) rfl
theorem q505 : (Jvm.Cond.laysFinal "WeatherWages$Reader" "WeatherWages$Reader" "this$0" "LWeatherWages;") ∈ lw_all := lw_g (lw_at lw_m2 125 rfl) rfl
theorem q506 : (Jvm.Cond.soleField "WeatherWages$Reader" "this$0") ∈ lw_all := lw_g (lw_at lw_m2 126 rfl) rfl
theorem q507 : (Jvm.Cond.superclass "WeatherWages$Reader" "java/lang/Object") ∈ lw_all := lw_g (lw_at lw_m2 127 rfl) rfl
theorem q509 : (Jvm.Cond.instanceMethod ({ cls := "WeatherWages$Reader", name := "text", desc := "()LWeatherWages$Book;" } : Jvm.MethodName)) ∈ lw_all := lw_g (lw_at lw_m2 129 rfl) rfl
theorem q510 : (Jvm.Cond.selects "WeatherWages$Reader" ({ cls := "WeatherWages$Reader", name := "text", desc := "()LWeatherWages$Book;" } : Jvm.MethodName) ({ cls := "WeatherWages$Reader", name := "text", desc := "()LWeatherWages$Book;" } : Jvm.MethodName)) ∈ lw_all := lw_g (lw_at lw_m2 130 rfl) rfl
theorem q511 : (Jvm.Cond.code ({ cls := "WeatherWages$Reader", name := "text", desc := "()LWeatherWages$Book;" } : Jvm.MethodName) prog_17_method_17_code (1 : Nat) (Option.some (Jvm.ClassFile.FieldType.object "WeatherWages$Book"))) ∈ lw_all := lw_g (lw_at lw_m2 131 rfl) rfl
theorem q512 : (Jvm.Cond.methodLink "WeatherWages$Reader" (90 : Nat) ({ cls := "WeatherWages$Reader", name := "go", desc := "()V" } : Jvm.MethodName)) ∈ lw_all := lw_g (lw_at lw_m2 132 rfl) rfl
theorem q513 : (Jvm.Cond.privateMethod ({ cls := "WeatherWages$Reader", name := "go", desc := "()V" } : Jvm.MethodName)) ∈ lw_tbl := lw_at lw_m2 133 rfl
theorem q514 : (Jvm.Cond.instanceMethod ({ cls := "WeatherWages$Reader", name := "go", desc := "()V" } : Jvm.MethodName)) ∈ lw_all := lw_g (lw_at lw_m2 134 rfl) rfl
theorem q515 : (Jvm.Cond.code ({ cls := "WeatherWages$Reader", name := "go", desc := "()V" } : Jvm.MethodName) prog_17_method_6_code (4 : Nat) (Option.none : Option Jvm.ClassFile.FieldType)) ∈ lw_all := lw_g (lw_at lw_m2 135 rfl) rfl
theorem q516 : (Jvm.Cond.methodLink "WeatherWages$Reader" (39 : Nat) ({ cls := "WeatherWages$Reader", name := "here", desc := "(I)I" } : Jvm.MethodName)) ∈ lw_all := lw_g (lw_at lw_m2 136 rfl) rfl
theorem q517 : (Jvm.Cond.privateMethod ({ cls := "WeatherWages$Reader", name := "here", desc := "(I)I" } : Jvm.MethodName)) ∈ lw_tbl := lw_at lw_m2 137 rfl
theorem q518 : (Jvm.Cond.instanceMethod ({ cls := "WeatherWages$Reader", name := "here", desc := "(I)I" } : Jvm.MethodName)) ∈ lw_all := lw_g (lw_at lw_m2 138 rfl) rfl
theorem q519 : (Jvm.Cond.code ({ cls := "WeatherWages$Reader", name := "here", desc := "(I)I" } : Jvm.MethodName) prog_17_method_2_code (2 : Nat) (Option.some Jvm.ClassFile.FieldType.int)) ∈ lw_all := lw_g (lw_at lw_m2 139 rfl) rfl
theorem q520 : (Jvm.Cond.methodLink "WeatherWages$Reader" (49 : Nat) ({ cls := "WeatherWages$Reader", name := "isLetter", desc := "(I)Z" } : Jvm.MethodName)) ∈ lw_all := lw_g (lw_at lw_m2 140 rfl) rfl
theorem q521 : (Jvm.Cond.privateMethod ({ cls := "WeatherWages$Reader", name := "isLetter", desc := "(I)Z" } : Jvm.MethodName)) ∈ lw_tbl := lw_at lw_m2 141 rfl
theorem q522 : (Jvm.Cond.instanceMethod ({ cls := "WeatherWages$Reader", name := "isLetter", desc := "(I)Z" } : Jvm.MethodName)) ∈ lw_all := lw_g (lw_at lw_m2 142 rfl) rfl
theorem q523 : (Jvm.Cond.code ({ cls := "WeatherWages$Reader", name := "isLetter", desc := "(I)Z" } : Jvm.MethodName) prog_17_method_3_code (2 : Nat) (Option.some Jvm.ClassFile.FieldType.boolean)) ∈ lw_all := lw_g (lw_at lw_m2 143 rfl) rfl
theorem q524 : (Jvm.Cond.classLink "WeatherWages$Reader" (53 : Nat) "java/lang/StringBuilder") ∈ lw_all := lw_g (lw_at lw_m2 144 rfl) rfl
theorem q526 : (Jvm.Cond.methodLink "WeatherWages$Reader" (55 : Nat) ({ cls := "java/lang/StringBuilder", name := "<init>", desc := "(I)V" } : Jvm.MethodName)) ∈ lw_all := lw_g (lw_at lw_m2 146 rfl) rfl
theorem q555 : (Jvm.Cond.methodLink "WeatherWages$Reader" (58 : Nat) ({ cls := "java/lang/StringBuilder", name := "append", desc := "(C)Ljava/lang/StringBuilder;" } : Jvm.MethodName)) ∈ lw_all := lw_g (lw_at lw_m2 175 rfl) rfl
theorem q648 : (Jvm.Cond.methodLink "WeatherWages$Reader" (62 : Nat) ({ cls := "java/lang/StringBuilder", name := "toString", desc := "()Ljava/lang/String;" } : Jvm.MethodName)) ∈ lw_all := lw_g (lw_at lw_m3 28 rfl) rfl
theorem q711 : (Jvm.Cond.methodLink "WeatherWages$Reader" (66 : Nat) ({ cls := "WeatherWages$Reader", name := "isDigit", desc := "(I)Z" } : Jvm.MethodName)) ∈ lw_all := lw_g (lw_at lw_m3 91 rfl) rfl
theorem q712 : (Jvm.Cond.privateMethod ({ cls := "WeatherWages$Reader", name := "isDigit", desc := "(I)Z" } : Jvm.MethodName)) ∈ lw_tbl := lw_at lw_m3 92 rfl
theorem q713 : (Jvm.Cond.instanceMethod ({ cls := "WeatherWages$Reader", name := "isDigit", desc := "(I)Z" } : Jvm.MethodName)) ∈ lw_all := lw_g (lw_at lw_m3 93 rfl) rfl
theorem q714 : (Jvm.Cond.code ({ cls := "WeatherWages$Reader", name := "isDigit", desc := "(I)Z" } : Jvm.MethodName) prog_17_method_4_code (2 : Nat) (Option.some Jvm.ClassFile.FieldType.boolean)) ∈ lw_all := lw_g (lw_at lw_m3 94 rfl) rfl
theorem q715 : (Jvm.Cond.methodLink "WeatherWages$Reader" (72 : Nat) ({ cls := "WeatherWages$Reader", name := "isSign", desc := "(I)Z" } : Jvm.MethodName)) ∈ lw_all := lw_g (lw_at lw_m3 95 rfl) rfl
theorem q716 : (Jvm.Cond.static ({ cls := "WeatherWages$Reader", name := "isSign", desc := "(I)Z" } : Jvm.MethodName)) ∈ lw_all := lw_g (lw_at lw_m3 96 rfl) rfl
theorem q717 : (Jvm.Cond.code ({ cls := "WeatherWages$Reader", name := "isSign", desc := "(I)Z" } : Jvm.MethodName) prog_17_method_5_code (1 : Nat) (Option.some Jvm.ClassFile.FieldType.boolean)) ∈ lw_all := lw_g (lw_at lw_m3 97 rfl) rfl
theorem q718 : (Jvm.Cond.methodLink "WeatherWages$Reader" (170 : Nat) ({ cls := "WeatherWages$Reader", name := "line", desc := "()V" } : Jvm.MethodName)) ∈ lw_all := lw_g (lw_at lw_m3 98 rfl) rfl
theorem q719 : (Jvm.Cond.privateMethod ({ cls := "WeatherWages$Reader", name := "line", desc := "()V" } : Jvm.MethodName)) ∈ lw_tbl := lw_at lw_m3 99 rfl
theorem q720 : (Jvm.Cond.instanceMethod ({ cls := "WeatherWages$Reader", name := "line", desc := "()V" } : Jvm.MethodName)) ∈ lw_all := lw_g (lw_at lw_m3 100 rfl) rfl
theorem q721 : (Jvm.Cond.code ({ cls := "WeatherWages$Reader", name := "line", desc := "()V" } : Jvm.MethodName) prog_17_method_18_code (1 : Nat) (Option.none : Option Jvm.ClassFile.FieldType)) ∈ lw_all := lw_g (lw_at lw_m3 101 rfl) rfl
theorem q722 : (Jvm.Cond.stringRef "WeatherWages$Reader" (104 : Nat) "kind") ∈ lw_tbl := lw_at lw_m3 102 rfl
theorem q723 : (Jvm.Cond.methodLink "WeatherWages$Reader" (86 : Nat) ({ cls := "WeatherWages$Reader", name := "is", desc := "(Ljava/lang/String;)Z" } : Jvm.MethodName)) ∈ lw_all := lw_g (lw_at lw_m3 103 rfl) rfl
theorem q724 : (Jvm.Cond.privateMethod ({ cls := "WeatherWages$Reader", name := "is", desc := "(Ljava/lang/String;)Z" } : Jvm.MethodName)) ∈ lw_tbl := lw_at lw_m3 104 rfl
theorem q725 : (Jvm.Cond.instanceMethod ({ cls := "WeatherWages$Reader", name := "is", desc := "(Ljava/lang/String;)Z" } : Jvm.MethodName)) ∈ lw_all := lw_g (lw_at lw_m3 105 rfl) rfl
theorem q726 : (Jvm.Cond.code ({ cls := "WeatherWages$Reader", name := "is", desc := "(Ljava/lang/String;)Z" } : Jvm.MethodName) prog_17_method_8_code (2 : Nat) (Option.some Jvm.ClassFile.FieldType.boolean)) ∈ lw_all := lw_g (lw_at lw_m3 106 rfl) rfl
theorem q727 : (Jvm.Cond.methodLink "WeatherWages$Reader" (80 : Nat) ({ cls := "java/lang/String", name := "equals", desc := "(Ljava/lang/Object;)Z" } : Jvm.MethodName)) ∈ lw_all := lw_g (lw_at lw_m3 107 rfl) rfl
theorem q735 : (Jvm.Cond.methodLink "WeatherWages$Reader" (176 : Nat) ({ cls := "java/util/ArrayList", name := "size", desc := "()I" } : Jvm.MethodName)) ∈ lw_all := lw_g (lw_at lw_m3 115 rfl) rfl
theorem q736 : (Jvm.Cond.methodLink "WeatherWages$Reader" (179 : Nat) ({ cls := "WeatherWages$Reader", name := "kind", desc := "()V" } : Jvm.MethodName)) ∈ lw_all := lw_g (lw_at lw_m3 116 rfl) rfl
theorem q737 : (Jvm.Cond.privateMethod ({ cls := "WeatherWages$Reader", name := "kind", desc := "()V" } : Jvm.MethodName)) ∈ lw_tbl := lw_at lw_m3 117 rfl
theorem q738 : (Jvm.Cond.instanceMethod ({ cls := "WeatherWages$Reader", name := "kind", desc := "()V" } : Jvm.MethodName)) ∈ lw_all := lw_g (lw_at lw_m3 118 rfl) rfl
theorem q739 : (Jvm.Cond.code ({ cls := "WeatherWages$Reader", name := "kind", desc := "()V" } : Jvm.MethodName) prog_17_method_19_code (1 : Nat) (Option.none : Option Jvm.ClassFile.FieldType)) ∈ lw_all := lw_g (lw_at lw_m3 119 rfl) rfl
theorem q740 : (Jvm.Cond.methodLink "WeatherWages$Reader" (168 : Nat) ({ cls := "WeatherWages$Book", name := "kind", desc := "(Ljava/lang/String;)I" } : Jvm.MethodName)) ∈ lw_all := lw_g (lw_at lw_m3 120 rfl) rfl
theorem q748 : (Jvm.Cond.methodLink "WeatherWages$Reader" (212 : Nat) ({ cls := "WeatherWages$Reader", name := "newName", desc := "(I)Ljava/lang/String;" } : Jvm.MethodName)) ∈ lw_all := lw_g (lw_at lw_m3 128 rfl) rfl
theorem q749 : (Jvm.Cond.privateMethod ({ cls := "WeatherWages$Reader", name := "newName", desc := "(I)Ljava/lang/String;" } : Jvm.MethodName)) ∈ lw_tbl := lw_at lw_m3 129 rfl
theorem q750 : (Jvm.Cond.instanceMethod ({ cls := "WeatherWages$Reader", name := "newName", desc := "(I)Ljava/lang/String;" } : Jvm.MethodName)) ∈ lw_all := lw_g (lw_at lw_m3 130 rfl) rfl
theorem q751 : (Jvm.Cond.code ({ cls := "WeatherWages$Reader", name := "newName", desc := "(I)Ljava/lang/String;" } : Jvm.MethodName) prog_17_method_13_code (3 : Nat) (Option.some (Jvm.ClassFile.FieldType.object "java/lang/String"))) ∈ lw_all := lw_g (lw_at lw_m3 131 rfl) rfl
theorem q752 : (Jvm.Cond.methodLink "WeatherWages$Reader" (146 : Nat) ({ cls := "WeatherWages$Reader", name := "isName", desc := "()Z" } : Jvm.MethodName)) ∈ lw_all := lw_g (lw_at lw_m3 132 rfl) rfl
theorem q753 : (Jvm.Cond.privateMethod ({ cls := "WeatherWages$Reader", name := "isName", desc := "()Z" } : Jvm.MethodName)) ∈ lw_tbl := lw_at lw_m3 133 rfl
theorem q754 : (Jvm.Cond.instanceMethod ({ cls := "WeatherWages$Reader", name := "isName", desc := "()Z" } : Jvm.MethodName)) ∈ lw_all := lw_g (lw_at lw_m3 134 rfl) rfl
theorem q755 : (Jvm.Cond.code ({ cls := "WeatherWages$Reader", name := "isName", desc := "()Z" } : Jvm.MethodName) prog_17_method_12_code (3 : Nat) (Option.some Jvm.ClassFile.FieldType.boolean)) ∈ lw_all := lw_g (lw_at lw_m3 135 rfl) rfl
theorem q756 : (Jvm.Cond.methodLink "WeatherWages$Reader" (100 : Nat) ({ cls := "java/lang/String", name := "hashCode", desc := "()I" } : Jvm.MethodName)) ∈ lw_all := lw_g (lw_at lw_m3 136 rfl) rfl
theorem q809 : (Jvm.Cond.stringRef "WeatherWages$Reader" (106 : Nat) "man") ∈ lw_tbl := lw_at lw_m3 189 rfl
theorem q810 : (Jvm.Cond.stringRef "WeatherWages$Reader" (108 : Nat) "crop") ∈ lw_tbl := lw_at lw_m3 190 rfl
theorem q811 : (Jvm.Cond.stringRef "WeatherWages$Reader" (110 : Nat) "loose") ∈ lw_tbl := lw_at lw_m3 191 rfl
theorem q812 : (Jvm.Cond.stringRef "WeatherWages$Reader" (112 : Nat) "purse") ∈ lw_tbl := lw_at lw_m3 192 rfl
theorem q813 : (Jvm.Cond.stringRef "WeatherWages$Reader" (114 : Nat) "pay") ∈ lw_tbl := lw_at lw_m3 193 rfl
theorem q814 : (Jvm.Cond.stringRef "WeatherWages$Reader" (116 : Nat) "hedge") ∈ lw_tbl := lw_at lw_m3 194 rfl
theorem q815 : (Jvm.Cond.stringRef "WeatherWages$Reader" (118 : Nat) "rate") ∈ lw_tbl := lw_at lw_m3 195 rfl
theorem q816 : (Jvm.Cond.stringRef "WeatherWages$Reader" (120 : Nat) "for") ∈ lw_tbl := lw_at lw_m3 196 rfl
theorem q817 : (Jvm.Cond.stringRef "WeatherWages$Reader" (122 : Nat) "book") ∈ lw_tbl := lw_at lw_m3 197 rfl
theorem q818 : (Jvm.Cond.stringRef "WeatherWages$Reader" (124 : Nat) "grow") ∈ lw_tbl := lw_at lw_m3 198 rfl
theorem q819 : (Jvm.Cond.stringRef "WeatherWages$Reader" (126 : Nat) "hours") ∈ lw_tbl := lw_at lw_m3 199 rfl
theorem q820 : (Jvm.Cond.stringRef "WeatherWages$Reader" (128 : Nat) "draw") ∈ lw_tbl := lw_at lw_m3 200 rfl
theorem q821 : (Jvm.Cond.stringRef "WeatherWages$Reader" (130 : Nat) "first") ∈ lw_tbl := lw_at lw_m3 201 rfl
theorem q822 : (Jvm.Cond.stringRef "WeatherWages$Reader" (132 : Nat) "second") ∈ lw_tbl := lw_at lw_m3 202 rfl
theorem q823 : (Jvm.Cond.stringRef "WeatherWages$Reader" (134 : Nat) "third") ∈ lw_tbl := lw_at lw_m3 203 rfl
theorem q824 : (Jvm.Cond.stringRef "WeatherWages$Reader" (136 : Nat) "week") ∈ lw_tbl := lw_at lw_m3 204 rfl
theorem q825 : (Jvm.Cond.stringRef "WeatherWages$Reader" (138 : Nat) "plot") ∈ lw_tbl := lw_at lw_m3 205 rfl
theorem q826 : (Jvm.Cond.stringRef "WeatherWages$Reader" (140 : Nat) "and") ∈ lw_tbl := lw_at lw_m3 206 rfl
theorem q827 : (Jvm.Cond.stringRef "WeatherWages$Reader" (142 : Nat) "or") ∈ lw_tbl := lw_at lw_m3 207 rfl
theorem q828 : (Jvm.Cond.stringRef "WeatherWages$Reader" (144 : Nat) "not") ∈ lw_tbl := lw_at lw_m3 208 rfl
theorem q829 : (Jvm.Cond.methodLink "WeatherWages$Reader" (96 : Nat) ({ cls := "WeatherWages$Reader", name := "wrong", desc := "()LWeatherWages$Wrong;" } : Jvm.MethodName)) ∈ lw_all := lw_g (lw_at lw_m3 209 rfl) rfl
theorem q830 : (Jvm.Cond.privateMethod ({ cls := "WeatherWages$Reader", name := "wrong", desc := "()LWeatherWages$Wrong;" } : Jvm.MethodName)) ∈ lw_tbl := lw_at lw_m3 210 rfl
theorem q831 : (Jvm.Cond.instanceMethod ({ cls := "WeatherWages$Reader", name := "wrong", desc := "()LWeatherWages$Wrong;" } : Jvm.MethodName)) ∈ lw_all := lw_g (lw_at lw_m3 211 rfl) rfl
theorem q832 : (Jvm.Cond.code ({ cls := "WeatherWages$Reader", name := "wrong", desc := "()LWeatherWages$Wrong;" } : Jvm.MethodName) prog_17_method_7_code (1 : Nat) (Option.some (Jvm.ClassFile.FieldType.object "WeatherWages$Wrong"))) ∈ lw_all := lw_g (lw_at lw_m3 212 rfl) rfl
theorem q833 : (Jvm.Cond.classLink "WeatherWages$Reader" (75 : Nat) "WeatherWages$Wrong") ∈ lw_all := lw_g (lw_at lw_m3 213 rfl) rfl
theorem q870 : (Jvm.Cond.methodLink "WeatherWages$Reader" (77 : Nat) ({ cls := "WeatherWages$Wrong", name := "<init>", desc := "(II)V" } : Jvm.MethodName)) ∈ lw_all := lw_g (lw_at lw_m4 10 rfl) rfl
theorem q900 : (Jvm.Cond.methodLink "WeatherWages$Reader" (216 : Nat) ({ cls := "java/util/ArrayList", name := "add", desc := "(Ljava/lang/Object;)Z" } : Jvm.MethodName)) ∈ lw_all := lw_g (lw_at lw_m4 40 rfl) rfl
theorem q939 : (Jvm.Cond.selects "WeatherWages$Reader" ({ cls := "java/lang/Object", name := "getClass", desc := "()Ljava/lang/Class;" } : Jvm.MethodName) ({ cls := "java/lang/Object", name := "getClass", desc := "()Ljava/lang/Class;" } : Jvm.MethodName)) ∈ lw_all := lw_g (lw_at lw_m4 79 rfl) rfl
theorem q956 : (Jvm.Cond.methodLink "WeatherWages$Reader" (181 : Nat) ({ cls := "WeatherWages$Reader", name := "man", desc := "()V" } : Jvm.MethodName)) ∈ lw_all := lw_g (lw_at lw_m4 96 rfl) rfl
theorem q957 : (Jvm.Cond.privateMethod ({ cls := "WeatherWages$Reader", name := "man", desc := "()V" } : Jvm.MethodName)) ∈ lw_tbl := lw_at lw_m4 97 rfl
theorem q958 : (Jvm.Cond.instanceMethod ({ cls := "WeatherWages$Reader", name := "man", desc := "()V" } : Jvm.MethodName)) ∈ lw_all := lw_g (lw_at lw_m4 98 rfl) rfl
theorem q959 : (Jvm.Cond.code ({ cls := "WeatherWages$Reader", name := "man", desc := "()V" } : Jvm.MethodName) prog_17_method_20_code (2 : Nat) (Option.none : Option Jvm.ClassFile.FieldType)) ∈ lw_all := lw_g (lw_at lw_m4 99 rfl) rfl
theorem q960 : (Jvm.Cond.classLink "WeatherWages$Reader" (166 : Nat) "WeatherWages$Man") ∈ lw_all := lw_g (lw_at lw_m4 100 rfl) rfl
theorem q962 : (Jvm.Cond.methodLink "WeatherWages$Reader" (154 : Nat) ({ cls := "WeatherWages$Book", name := "man", desc := "(Ljava/lang/String;)I" } : Jvm.MethodName)) ∈ lw_all := lw_g (lw_at lw_m4 102 rfl) rfl
theorem q967 : (Jvm.Cond.methodLink "WeatherWages$Reader" (219 : Nat) ({ cls := "WeatherWages$Man", name := "<init>", desc := "(Ljava/lang/String;)V" } : Jvm.MethodName)) ∈ lw_all := lw_g (lw_at lw_m4 107 rfl) rfl
theorem q975 : (Jvm.Cond.fieldLink "WeatherWages$Reader" (246 : Nat) "WeatherWages$Man" "purse" "[I") ∈ lw_all := lw_g (lw_at lw_m4 115 rfl) rfl
theorem q979 : (Jvm.Cond.fieldLink "WeatherWages$Reader" (252 : Nat) "WeatherWages$Man" "pay" "[I") ∈ lw_all := lw_g (lw_at lw_m4 119 rfl) rfl
theorem q981 : (Jvm.Cond.fieldLink "WeatherWages$Reader" (228 : Nat) "WeatherWages$Man" "crop" "I") ∈ lw_all := lw_g (lw_at lw_m4 121 rfl) rfl
theorem q982 : (Jvm.Cond.fieldLink "WeatherWages$Reader" (240 : Nat) "WeatherWages$Man" "pursed" "I") ∈ lw_all := lw_g (lw_at lw_m4 122 rfl) rfl
theorem q983 : (Jvm.Cond.fieldLink "WeatherWages$Reader" (249 : Nat) "WeatherWages$Man" "paid" "I") ∈ lw_all := lw_g (lw_at lw_m4 123 rfl) rfl
theorem q987 : (Jvm.Cond.fieldLink "WeatherWages$Reader" (257 : Nat) "WeatherWages$Man" "hedge" "I") ∈ lw_all := lw_g (lw_at lw_m4 127 rfl) rfl
theorem q990 : (Jvm.Cond.fieldLink "WeatherWages$Reader" (230 : Nat) "WeatherWages$Man" "isLoose" "Z") ∈ lw_all := lw_g (lw_at lw_m4 130 rfl) rfl
theorem q991 : (Jvm.Cond.fieldLink "WeatherWages$Reader" (254 : Nat) "WeatherWages$Man" "hasHedge" "Z") ∈ lw_all := lw_g (lw_at lw_m4 131 rfl) rfl
theorem q1011 : (Jvm.Cond.methodLink "WeatherWages$Reader" (222 : Nat) ({ cls := "WeatherWages$Reader", name := "key", desc := "(Ljava/lang/String;)V" } : Jvm.MethodName)) ∈ lw_all := lw_g (lw_at lw_m4 151 rfl) rfl
theorem q1012 : (Jvm.Cond.privateMethod ({ cls := "WeatherWages$Reader", name := "key", desc := "(Ljava/lang/String;)V" } : Jvm.MethodName)) ∈ lw_tbl := lw_at lw_m4 152 rfl
theorem q1013 : (Jvm.Cond.instanceMethod ({ cls := "WeatherWages$Reader", name := "key", desc := "(Ljava/lang/String;)V" } : Jvm.MethodName)) ∈ lw_all := lw_g (lw_at lw_m4 153 rfl) rfl
theorem q1014 : (Jvm.Cond.code ({ cls := "WeatherWages$Reader", name := "key", desc := "(Ljava/lang/String;)V" } : Jvm.MethodName) prog_17_method_10_code (2 : Nat) (Option.none : Option Jvm.ClassFile.FieldType)) ∈ lw_all := lw_g (lw_at lw_m4 154 rfl) rfl
theorem q1015 : (Jvm.Cond.methodLink "WeatherWages$Reader" (93 : Nat) ({ cls := "WeatherWages$Reader", name := "takes", desc := "(Ljava/lang/String;)Z" } : Jvm.MethodName)) ∈ lw_all := lw_g (lw_at lw_m4 155 rfl) rfl
theorem q1016 : (Jvm.Cond.privateMethod ({ cls := "WeatherWages$Reader", name := "takes", desc := "(Ljava/lang/String;)Z" } : Jvm.MethodName)) ∈ lw_tbl := lw_at lw_m4 156 rfl
theorem q1017 : (Jvm.Cond.instanceMethod ({ cls := "WeatherWages$Reader", name := "takes", desc := "(Ljava/lang/String;)Z" } : Jvm.MethodName)) ∈ lw_all := lw_g (lw_at lw_m4 157 rfl) rfl
theorem q1018 : (Jvm.Cond.code ({ cls := "WeatherWages$Reader", name := "takes", desc := "(Ljava/lang/String;)Z" } : Jvm.MethodName) prog_17_method_9_code (3 : Nat) (Option.some Jvm.ClassFile.FieldType.boolean)) ∈ lw_all := lw_g (lw_at lw_m4 158 rfl) rfl
theorem q1019 : (Jvm.Cond.methodLink "WeatherWages$Reader" (225 : Nat) ({ cls := "WeatherWages$Reader", name := "number", desc := "(II)I" } : Jvm.MethodName)) ∈ lw_all := lw_g (lw_at lw_m4 159 rfl) rfl
theorem q1020 : (Jvm.Cond.privateMethod ({ cls := "WeatherWages$Reader", name := "number", desc := "(II)I" } : Jvm.MethodName)) ∈ lw_tbl := lw_at lw_m4 160 rfl
theorem q1021 : (Jvm.Cond.instanceMethod ({ cls := "WeatherWages$Reader", name := "number", desc := "(II)I" } : Jvm.MethodName)) ∈ lw_all := lw_g (lw_at lw_m4 161 rfl) rfl
theorem q1022 : (Jvm.Cond.code ({ cls := "WeatherWages$Reader", name := "number", desc := "(II)I" } : Jvm.MethodName) prog_17_method_11_code (4 : Nat) (Option.some Jvm.ClassFile.FieldType.int)) ∈ lw_all := lw_g (lw_at lw_m4 162 rfl) rfl
theorem q1023 : (Jvm.Cond.methodLink "WeatherWages$Reader" (183 : Nat) ({ cls := "WeatherWages$Reader", name := "purse", desc := "()V" } : Jvm.MethodName)) ∈ lw_all := lw_g (lw_at lw_m4 163 rfl) rfl
theorem q1024 : (Jvm.Cond.privateMethod ({ cls := "WeatherWages$Reader", name := "purse", desc := "()V" } : Jvm.MethodName)) ∈ lw_tbl := lw_at lw_m4 164 rfl
theorem q1025 : (Jvm.Cond.instanceMethod ({ cls := "WeatherWages$Reader", name := "purse", desc := "()V" } : Jvm.MethodName)) ∈ lw_all := lw_g (lw_at lw_m4 165 rfl) rfl
theorem q1026 : (Jvm.Cond.code ({ cls := "WeatherWages$Reader", name := "purse", desc := "()V" } : Jvm.MethodName) prog_17_method_22_code (3 : Nat) (Option.none : Option Jvm.ClassFile.FieldType)) ∈ lw_all := lw_g (lw_at lw_m4 166 rfl) rfl
theorem q1027 : (Jvm.Cond.methodLink "WeatherWages$Reader" (236 : Nat) ({ cls := "WeatherWages$Reader", name := "oldMan", desc := "()LWeatherWages$Man;" } : Jvm.MethodName)) ∈ lw_all := lw_g (lw_at lw_m4 167 rfl) rfl
theorem q1028 : (Jvm.Cond.privateMethod ({ cls := "WeatherWages$Reader", name := "oldMan", desc := "()LWeatherWages$Man;" } : Jvm.MethodName)) ∈ lw_tbl := lw_at lw_m4 168 rfl
theorem q1029 : (Jvm.Cond.instanceMethod ({ cls := "WeatherWages$Reader", name := "oldMan", desc := "()LWeatherWages$Man;" } : Jvm.MethodName)) ∈ lw_all := lw_g (lw_at lw_m4 169 rfl) rfl
theorem q1030 : (Jvm.Cond.code ({ cls := "WeatherWages$Reader", name := "oldMan", desc := "()LWeatherWages$Man;" } : Jvm.MethodName) prog_17_method_15_code (1 : Nat) (Option.some (Jvm.ClassFile.FieldType.object "WeatherWages$Man"))) ∈ lw_all := lw_g (lw_at lw_m4 170 rfl) rfl
theorem q1031 : (Jvm.Cond.methodLink "WeatherWages$Reader" (157 : Nat) ({ cls := "WeatherWages$Reader", name := "old", desc := "(I)I" } : Jvm.MethodName)) ∈ lw_all := lw_g (lw_at lw_m4 171 rfl) rfl
theorem q1032 : (Jvm.Cond.privateMethod ({ cls := "WeatherWages$Reader", name := "old", desc := "(I)I" } : Jvm.MethodName)) ∈ lw_tbl := lw_at lw_m4 172 rfl
theorem q1033 : (Jvm.Cond.instanceMethod ({ cls := "WeatherWages$Reader", name := "old", desc := "(I)I" } : Jvm.MethodName)) ∈ lw_all := lw_g (lw_at lw_m4 173 rfl) rfl
theorem q1034 : (Jvm.Cond.code ({ cls := "WeatherWages$Reader", name := "old", desc := "(I)I" } : Jvm.MethodName) prog_17_method_14_code (2 : Nat) (Option.some Jvm.ClassFile.FieldType.int)) ∈ lw_all := lw_g (lw_at lw_m4 174 rfl) rfl
theorem q1035 : (Jvm.Cond.methodLink "WeatherWages$Reader" (160 : Nat) ({ cls := "java/util/ArrayList", name := "get", desc := "(I)Ljava/lang/Object;" } : Jvm.MethodName)) ∈ lw_all := lw_g (lw_at lw_m4 175 rfl) rfl
theorem q1036 : (Jvm.Cond.methodLink "WeatherWages$Reader" (243 : Nat) ({ cls := "WeatherWages$Reader", name := "freshKind", desc := "(I)I" } : Jvm.MethodName)) ∈ lw_all := lw_g (lw_at lw_m4 176 rfl) rfl
theorem q1037 : (Jvm.Cond.privateMethod ({ cls := "WeatherWages$Reader", name := "freshKind", desc := "(I)I" } : Jvm.MethodName)) ∈ lw_tbl := lw_at lw_m4 177 rfl
theorem q1038 : (Jvm.Cond.instanceMethod ({ cls := "WeatherWages$Reader", name := "freshKind", desc := "(I)I" } : Jvm.MethodName)) ∈ lw_all := lw_g (lw_at lw_m4 178 rfl) rfl
theorem q1039 : (Jvm.Cond.code ({ cls := "WeatherWages$Reader", name := "freshKind", desc := "(I)I" } : Jvm.MethodName) prog_17_method_21_code (3 : Nat) (Option.some Jvm.ClassFile.FieldType.int)) ∈ lw_all := lw_g (lw_at lw_m4 179 rfl) rfl
theorem q1040 : (Jvm.Cond.methodLink "WeatherWages$Reader" (233 : Nat) ({ cls := "WeatherWages$Reader", name := "oldKind", desc := "()I" } : Jvm.MethodName)) ∈ lw_all := lw_g (lw_at lw_m4 180 rfl) rfl
theorem q1041 : (Jvm.Cond.privateMethod ({ cls := "WeatherWages$Reader", name := "oldKind", desc := "()I" } : Jvm.MethodName)) ∈ lw_tbl := lw_at lw_m4 181 rfl
theorem q1042 : (Jvm.Cond.instanceMethod ({ cls := "WeatherWages$Reader", name := "oldKind", desc := "()I" } : Jvm.MethodName)) ∈ lw_all := lw_g (lw_at lw_m4 182 rfl) rfl
theorem q1043 : (Jvm.Cond.code ({ cls := "WeatherWages$Reader", name := "oldKind", desc := "()I" } : Jvm.MethodName) prog_17_method_16_code (1 : Nat) (Option.some Jvm.ClassFile.FieldType.int)) ∈ lw_all := lw_g (lw_at lw_m4 183 rfl) rfl
theorem q1044 : (Jvm.Cond.methodLink "WeatherWages$Reader" (185 : Nat) ({ cls := "WeatherWages$Reader", name := "pay", desc := "()V" } : Jvm.MethodName)) ∈ lw_all := lw_g (lw_at lw_m4 184 rfl) rfl
theorem q1045 : (Jvm.Cond.privateMethod ({ cls := "WeatherWages$Reader", name := "pay", desc := "()V" } : Jvm.MethodName)) ∈ lw_tbl := lw_at lw_m4 185 rfl
theorem q1046 : (Jvm.Cond.instanceMethod ({ cls := "WeatherWages$Reader", name := "pay", desc := "()V" } : Jvm.MethodName)) ∈ lw_all := lw_g (lw_at lw_m4 186 rfl) rfl
theorem q1047 : (Jvm.Cond.code ({ cls := "WeatherWages$Reader", name := "pay", desc := "()V" } : Jvm.MethodName) prog_17_method_23_code (3 : Nat) (Option.none : Option Jvm.ClassFile.FieldType)) ∈ lw_all := lw_g (lw_at lw_m4 187 rfl) rfl
theorem q1048 : (Jvm.Cond.methodLink "WeatherWages$Reader" (187 : Nat) ({ cls := "WeatherWages$Reader", name := "hedge", desc := "()V" } : Jvm.MethodName)) ∈ lw_all := lw_g (lw_at lw_m4 188 rfl) rfl
theorem q1049 : (Jvm.Cond.privateMethod ({ cls := "WeatherWages$Reader", name := "hedge", desc := "()V" } : Jvm.MethodName)) ∈ lw_tbl := lw_at lw_m4 189 rfl
theorem q1050 : (Jvm.Cond.instanceMethod ({ cls := "WeatherWages$Reader", name := "hedge", desc := "()V" } : Jvm.MethodName)) ∈ lw_all := lw_g (lw_at lw_m4 190 rfl) rfl
theorem q1051 : (Jvm.Cond.code ({ cls := "WeatherWages$Reader", name := "hedge", desc := "()V" } : Jvm.MethodName) prog_17_method_24_code (2 : Nat) (Option.none : Option Jvm.ClassFile.FieldType)) ∈ lw_all := lw_g (lw_at lw_m4 191 rfl) rfl
theorem q1052 : (Jvm.Cond.methodLink "WeatherWages$Reader" (189 : Nat) ({ cls := "WeatherWages$Reader", name := "rate", desc := "()V" } : Jvm.MethodName)) ∈ lw_all := lw_g (lw_at lw_m4 192 rfl) rfl
theorem q1053 : (Jvm.Cond.privateMethod ({ cls := "WeatherWages$Reader", name := "rate", desc := "()V" } : Jvm.MethodName)) ∈ lw_tbl := lw_at lw_m4 193 rfl
theorem q1054 : (Jvm.Cond.instanceMethod ({ cls := "WeatherWages$Reader", name := "rate", desc := "()V" } : Jvm.MethodName)) ∈ lw_all := lw_g (lw_at lw_m4 194 rfl) rfl
theorem q1055 : (Jvm.Cond.code ({ cls := "WeatherWages$Reader", name := "rate", desc := "()V" } : Jvm.MethodName) prog_17_method_25_code (4 : Nat) (Option.none : Option Jvm.ClassFile.FieldType)) ∈ lw_all := lw_g (lw_at lw_m4 195 rfl) rfl
theorem q1056 : (Jvm.Cond.methodLink "WeatherWages$Reader" (259 : Nat) ({ cls := "WeatherWages$Book", name := "rate", desc := "(II)LWeatherWages$Rate;" } : Jvm.MethodName)) ∈ lw_all := lw_g (lw_at lw_m4 196 rfl) rfl
theorem q1107 : (Jvm.Cond.classLink "WeatherWages$Reader" (265 : Nat) "WeatherWages$Rate") ∈ lw_all := lw_g (lw_at lw_m5 7 rfl) rfl
theorem q1109 : (Jvm.Cond.methodLink "WeatherWages$Reader" (267 : Nat) ({ cls := "WeatherWages$Rate", name := "<init>", desc := "(IIII)V" } : Jvm.MethodName)) ∈ lw_all := lw_g (lw_at lw_m5 9 rfl) rfl
theorem q1130 : (Jvm.Cond.methodLink "WeatherWages$Reader" (194 : Nat) ({ cls := "WeatherWages$Reader", name := "book", desc := "()V" } : Jvm.MethodName)) ∈ lw_all := lw_g (lw_at lw_m5 30 rfl) rfl
theorem q1131 : (Jvm.Cond.privateMethod ({ cls := "WeatherWages$Reader", name := "book", desc := "()V" } : Jvm.MethodName)) ∈ lw_tbl := lw_at lw_m5 31 rfl
theorem q1132 : (Jvm.Cond.instanceMethod ({ cls := "WeatherWages$Reader", name := "book", desc := "()V" } : Jvm.MethodName)) ∈ lw_all := lw_g (lw_at lw_m5 32 rfl) rfl
theorem q1133 : (Jvm.Cond.code ({ cls := "WeatherWages$Reader", name := "book", desc := "()V" } : Jvm.MethodName) prog_17_method_26_code (1 : Nat) (Option.none : Option Jvm.ClassFile.FieldType)) ∈ lw_all := lw_g (lw_at lw_m5 33 rfl) rfl
theorem q1134 : (Jvm.Cond.methodLink "WeatherWages$Reader" (199 : Nat) ({ cls := "WeatherWages$Reader", name := "grow", desc := "()V" } : Jvm.MethodName)) ∈ lw_all := lw_g (lw_at lw_m5 34 rfl) rfl
theorem q1135 : (Jvm.Cond.privateMethod ({ cls := "WeatherWages$Reader", name := "grow", desc := "()V" } : Jvm.MethodName)) ∈ lw_tbl := lw_at lw_m5 35 rfl
theorem q1136 : (Jvm.Cond.instanceMethod ({ cls := "WeatherWages$Reader", name := "grow", desc := "()V" } : Jvm.MethodName)) ∈ lw_all := lw_g (lw_at lw_m5 36 rfl) rfl
theorem q1137 : (Jvm.Cond.code ({ cls := "WeatherWages$Reader", name := "grow", desc := "()V" } : Jvm.MethodName) prog_17_method_27_code (1 : Nat) (Option.none : Option Jvm.ClassFile.FieldType)) ∈ lw_all := lw_g (lw_at lw_m5 37 rfl) rfl
theorem q1138 : (Jvm.Cond.methodLink "WeatherWages$Reader" (273 : Nat) ({ cls := "WeatherWages$Reader", name := "e", desc := "()LWeatherWages$Node;" } : Jvm.MethodName)) ∈ lw_all := lw_g (lw_at lw_m5 38 rfl) rfl
theorem q1139 : (Jvm.Cond.privateMethod ({ cls := "WeatherWages$Reader", name := "e", desc := "()LWeatherWages$Node;" } : Jvm.MethodName)) ∈ lw_tbl := lw_at lw_m5 39 rfl
theorem q1140 : (Jvm.Cond.instanceMethod ({ cls := "WeatherWages$Reader", name := "e", desc := "()LWeatherWages$Node;" } : Jvm.MethodName)) ∈ lw_all := lw_g (lw_at lw_m5 40 rfl) rfl
theorem q1141 : (Jvm.Cond.code ({ cls := "WeatherWages$Reader", name := "e", desc := "()LWeatherWages$Node;" } : Jvm.MethodName) prog_17_method_30_code (1 : Nat) (Option.some (Jvm.ClassFile.FieldType.object "WeatherWages$Node"))) ∈ lw_all := lw_g (lw_at lw_m5 41 rfl) rfl
theorem q1142 : (Jvm.Cond.methodLink "WeatherWages$Reader" (288 : Nat) ({ cls := "WeatherWages$Reader", name := "both", desc := "()LWeatherWages$Node;" } : Jvm.MethodName)) ∈ lw_all := lw_g (lw_at lw_m5 42 rfl) rfl
theorem q1143 : (Jvm.Cond.privateMethod ({ cls := "WeatherWages$Reader", name := "both", desc := "()LWeatherWages$Node;" } : Jvm.MethodName)) ∈ lw_tbl := lw_at lw_m5 43 rfl
theorem q1144 : (Jvm.Cond.instanceMethod ({ cls := "WeatherWages$Reader", name := "both", desc := "()LWeatherWages$Node;" } : Jvm.MethodName)) ∈ lw_all := lw_g (lw_at lw_m5 44 rfl) rfl
theorem q1145 : (Jvm.Cond.code ({ cls := "WeatherWages$Reader", name := "both", desc := "()LWeatherWages$Node;" } : Jvm.MethodName) prog_17_method_31_code (2 : Nat) (Option.some (Jvm.ClassFile.FieldType.object "WeatherWages$Node"))) ∈ lw_all := lw_g (lw_at lw_m5 45 rfl) rfl
theorem q1146 : (Jvm.Cond.methodLink "WeatherWages$Reader" (291 : Nat) ({ cls := "WeatherWages$Reader", name := "all", desc := "()LWeatherWages$Node;" } : Jvm.MethodName)) ∈ lw_all := lw_g (lw_at lw_m5 46 rfl) rfl
theorem q1147 : (Jvm.Cond.privateMethod ({ cls := "WeatherWages$Reader", name := "all", desc := "()LWeatherWages$Node;" } : Jvm.MethodName)) ∈ lw_tbl := lw_at lw_m5 47 rfl
theorem q1148 : (Jvm.Cond.instanceMethod ({ cls := "WeatherWages$Reader", name := "all", desc := "()LWeatherWages$Node;" } : Jvm.MethodName)) ∈ lw_all := lw_g (lw_at lw_m5 48 rfl) rfl
theorem q1149 : (Jvm.Cond.code ({ cls := "WeatherWages$Reader", name := "all", desc := "()LWeatherWages$Node;" } : Jvm.MethodName) prog_17_method_32_code (2 : Nat) (Option.some (Jvm.ClassFile.FieldType.object "WeatherWages$Node"))) ∈ lw_all := lw_g (lw_at lw_m5 49 rfl) rfl
theorem q1150 : (Jvm.Cond.methodLink "WeatherWages$Reader" (299 : Nat) ({ cls := "WeatherWages$Reader", name := "one", desc := "()LWeatherWages$Node;" } : Jvm.MethodName)) ∈ lw_all := lw_g (lw_at lw_m5 50 rfl) rfl
theorem q1151 : (Jvm.Cond.privateMethod ({ cls := "WeatherWages$Reader", name := "one", desc := "()LWeatherWages$Node;" } : Jvm.MethodName)) ∈ lw_tbl := lw_at lw_m5 51 rfl
theorem q1152 : (Jvm.Cond.instanceMethod ({ cls := "WeatherWages$Reader", name := "one", desc := "()LWeatherWages$Node;" } : Jvm.MethodName)) ∈ lw_all := lw_g (lw_at lw_m5 52 rfl) rfl
theorem q1153 : (Jvm.Cond.code ({ cls := "WeatherWages$Reader", name := "one", desc := "()LWeatherWages$Node;" } : Jvm.MethodName) prog_17_method_33_code (3 : Nat) (Option.some (Jvm.ClassFile.FieldType.object "WeatherWages$Node"))) ∈ lw_all := lw_g (lw_at lw_m5 53 rfl) rfl
theorem q1154 : (Jvm.Cond.classLink "WeatherWages$Reader" (302 : Nat) "WeatherWages$Not") ∈ lw_all := lw_g (lw_at lw_m5 54 rfl) rfl
theorem q1156 : (Jvm.Cond.methodLink "WeatherWages$Reader" (304 : Nat) ({ cls := "WeatherWages$Not", name := "<init>", desc := "(LWeatherWages$Node;)V" } : Jvm.MethodName)) ∈ lw_all := lw_g (lw_at lw_m5 56 rfl) rfl
theorem q1164 : (Jvm.Cond.methodLink "WeatherWages$Reader" (307 : Nat) ({ cls := "WeatherWages$Reader", name := "sum", desc := "()LWeatherWages$Node;" } : Jvm.MethodName)) ∈ lw_all := lw_g (lw_at lw_m5 64 rfl) rfl
theorem q1165 : (Jvm.Cond.privateMethod ({ cls := "WeatherWages$Reader", name := "sum", desc := "()LWeatherWages$Node;" } : Jvm.MethodName)) ∈ lw_tbl := lw_at lw_m5 65 rfl
theorem q1166 : (Jvm.Cond.instanceMethod ({ cls := "WeatherWages$Reader", name := "sum", desc := "()LWeatherWages$Node;" } : Jvm.MethodName)) ∈ lw_all := lw_g (lw_at lw_m5 66 rfl) rfl
theorem q1167 : (Jvm.Cond.code ({ cls := "WeatherWages$Reader", name := "sum", desc := "()LWeatherWages$Node;" } : Jvm.MethodName) prog_17_method_34_code (3 : Nat) (Option.some (Jvm.ClassFile.FieldType.object "WeatherWages$Node"))) ∈ lw_all := lw_g (lw_at lw_m5 67 rfl) rfl
theorem q1168 : (Jvm.Cond.methodLink "WeatherWages$Reader" (310 : Nat) ({ cls := "WeatherWages$Reader", name := "term", desc := "()LWeatherWages$Node;" } : Jvm.MethodName)) ∈ lw_all := lw_g (lw_at lw_m5 68 rfl) rfl
theorem q1169 : (Jvm.Cond.privateMethod ({ cls := "WeatherWages$Reader", name := "term", desc := "()LWeatherWages$Node;" } : Jvm.MethodName)) ∈ lw_tbl := lw_at lw_m5 69 rfl
theorem q1170 : (Jvm.Cond.instanceMethod ({ cls := "WeatherWages$Reader", name := "term", desc := "()LWeatherWages$Node;" } : Jvm.MethodName)) ∈ lw_all := lw_g (lw_at lw_m5 70 rfl) rfl
theorem q1171 : (Jvm.Cond.code ({ cls := "WeatherWages$Reader", name := "term", desc := "()LWeatherWages$Node;" } : Jvm.MethodName) prog_17_method_35_code (3 : Nat) (Option.some (Jvm.ClassFile.FieldType.object "WeatherWages$Node"))) ∈ lw_all := lw_g (lw_at lw_m5 71 rfl) rfl
theorem q1172 : (Jvm.Cond.methodLink "WeatherWages$Reader" (313 : Nat) ({ cls := "WeatherWages$Reader", name := "unit", desc := "()LWeatherWages$Node;" } : Jvm.MethodName)) ∈ lw_all := lw_g (lw_at lw_m5 72 rfl) rfl
theorem q1173 : (Jvm.Cond.privateMethod ({ cls := "WeatherWages$Reader", name := "unit", desc := "()LWeatherWages$Node;" } : Jvm.MethodName)) ∈ lw_tbl := lw_at lw_m5 73 rfl
theorem q1174 : (Jvm.Cond.instanceMethod ({ cls := "WeatherWages$Reader", name := "unit", desc := "()LWeatherWages$Node;" } : Jvm.MethodName)) ∈ lw_all := lw_g (lw_at lw_m5 74 rfl) rfl
theorem q1175 : (Jvm.Cond.code ({ cls := "WeatherWages$Reader", name := "unit", desc := "()LWeatherWages$Node;" } : Jvm.MethodName) prog_17_method_37_code (3 : Nat) (Option.some (Jvm.ClassFile.FieldType.object "WeatherWages$Node"))) ∈ lw_all := lw_g (lw_at lw_m5 75 rfl) rfl
theorem q1176 : (Jvm.Cond.methodLink "WeatherWages$Reader" (337 : Nat) ({ cls := "WeatherWages$Reader", name := "asked", desc := "()LWeatherWages$Node;" } : Jvm.MethodName)) ∈ lw_all := lw_g (lw_at lw_m5 76 rfl) rfl
theorem q1177 : (Jvm.Cond.privateMethod ({ cls := "WeatherWages$Reader", name := "asked", desc := "()LWeatherWages$Node;" } : Jvm.MethodName)) ∈ lw_tbl := lw_at lw_m5 77 rfl
theorem q1178 : (Jvm.Cond.instanceMethod ({ cls := "WeatherWages$Reader", name := "asked", desc := "()LWeatherWages$Node;" } : Jvm.MethodName)) ∈ lw_all := lw_g (lw_at lw_m5 78 rfl) rfl
theorem q1179 : (Jvm.Cond.code ({ cls := "WeatherWages$Reader", name := "asked", desc := "()LWeatherWages$Node;" } : Jvm.MethodName) prog_17_method_36_code (3 : Nat) (Option.some (Jvm.ClassFile.FieldType.object "WeatherWages$Node"))) ∈ lw_all := lw_g (lw_at lw_m5 79 rfl) rfl
theorem q1180 : (Jvm.Cond.fieldLink "WeatherWages$Reader" (316 : Nat) "WeatherWages$Asked" "A_FIRST" "LWeatherWages$Asked;") ∈ lw_all := lw_g (lw_at lw_m5 80 rfl) rfl
theorem q1182 : (Jvm.Cond.fieldLink "WeatherWages$Reader" (322 : Nat) "WeatherWages$Asked" "A_SECOND" "LWeatherWages$Asked;") ∈ lw_all := lw_g (lw_at lw_m5 82 rfl) rfl
theorem q1184 : (Jvm.Cond.fieldLink "WeatherWages$Reader" (325 : Nat) "WeatherWages$Asked" "A_THIRD" "LWeatherWages$Asked;") ∈ lw_all := lw_g (lw_at lw_m5 84 rfl) rfl
theorem q1186 : (Jvm.Cond.fieldLink "WeatherWages$Reader" (328 : Nat) "WeatherWages$Asked" "A_CROP" "LWeatherWages$Asked;") ∈ lw_all := lw_g (lw_at lw_m5 86 rfl) rfl
theorem q1188 : (Jvm.Cond.fieldLink "WeatherWages$Reader" (331 : Nat) "WeatherWages$Asked" "A_WEEK" "LWeatherWages$Asked;") ∈ lw_all := lw_g (lw_at lw_m5 88 rfl) rfl
theorem q1190 : (Jvm.Cond.fieldLink "WeatherWages$Reader" (334 : Nat) "WeatherWages$Asked" "A_PLOT" "LWeatherWages$Asked;") ∈ lw_all := lw_g (lw_at lw_m5 90 rfl) rfl
theorem q1192 : (Jvm.Cond.classLink "WeatherWages$Reader" (343 : Nat) "WeatherWages$Value") ∈ lw_all := lw_g (lw_at lw_m5 92 rfl) rfl
theorem q1194 : (Jvm.Cond.methodLink "WeatherWages$Reader" (345 : Nat) ({ cls := "WeatherWages$Value", name := "<init>", desc := "(I)V" } : Jvm.MethodName)) ∈ lw_all := lw_g (lw_at lw_m5 94 rfl) rfl
theorem q1202 : (Jvm.Cond.classLink "WeatherWages$Reader" (294 : Nat) "WeatherWages$Pair") ∈ lw_all := lw_g (lw_at lw_m5 102 rfl) rfl
theorem q1204 : (Jvm.Cond.methodLink "WeatherWages$Reader" (296 : Nat) ({ cls := "WeatherWages$Pair", name := "<init>", desc := "(LWeatherWages$Node;LWeatherWages$Node;C)V" } : Jvm.MethodName)) ∈ lw_all := lw_g (lw_at lw_m5 104 rfl) rfl
theorem q1218 : (Jvm.Cond.methodLink "WeatherWages$Reader" (205 : Nat) ({ cls := "WeatherWages$Reader", name := "hours", desc := "()V" } : Jvm.MethodName)) ∈ lw_all := lw_g (lw_at lw_m5 118 rfl) rfl
theorem q1219 : (Jvm.Cond.privateMethod ({ cls := "WeatherWages$Reader", name := "hours", desc := "()V" } : Jvm.MethodName)) ∈ lw_tbl := lw_at lw_m5 119 rfl
theorem q1220 : (Jvm.Cond.instanceMethod ({ cls := "WeatherWages$Reader", name := "hours", desc := "()V" } : Jvm.MethodName)) ∈ lw_all := lw_g (lw_at lw_m5 120 rfl) rfl
theorem q1221 : (Jvm.Cond.code ({ cls := "WeatherWages$Reader", name := "hours", desc := "()V" } : Jvm.MethodName) prog_17_method_28_code (1 : Nat) (Option.none : Option Jvm.ClassFile.FieldType)) ∈ lw_all := lw_g (lw_at lw_m5 121 rfl) rfl
theorem q1222 : (Jvm.Cond.methodLink "WeatherWages$Reader" (210 : Nat) ({ cls := "WeatherWages$Reader", name := "draw", desc := "()V" } : Jvm.MethodName)) ∈ lw_all := lw_g (lw_at lw_m5 122 rfl) rfl
theorem q1223 : (Jvm.Cond.privateMethod ({ cls := "WeatherWages$Reader", name := "draw", desc := "()V" } : Jvm.MethodName)) ∈ lw_tbl := lw_at lw_m5 123 rfl
theorem q1224 : (Jvm.Cond.instanceMethod ({ cls := "WeatherWages$Reader", name := "draw", desc := "()V" } : Jvm.MethodName)) ∈ lw_all := lw_g (lw_at lw_m5 124 rfl) rfl
theorem q1225 : (Jvm.Cond.code ({ cls := "WeatherWages$Reader", name := "draw", desc := "()V" } : Jvm.MethodName) prog_17_method_29_code (1 : Nat) (Option.none : Option Jvm.ClassFile.FieldType)) ∈ lw_all := lw_g (lw_at lw_m5 125 rfl) rfl
theorem q2465 : (Jvm.Cond.castable "WeatherWages$Reader" "java/lang/Object") ∈ lw_tbl := lw_at lw_m10 165 rfl
theorem in_X5 : ∀ w ∈ wsX50, w ∈ lw_all := lw_in wsX50 [485, 487, 489, 491, 493, 495, 497, 499, 501, 503, 505] (by decide +kernel) (by decide +kernel)
/-! WeatherWages$Wrong -/
set_option maxRecDepth 100000
def RX6 : String := "WeatherWages$Wrong"
def TX6 : u_T := fun k => match k with
  | 0 => ("java/lang/Throwable", "cause", "Ljava/lang/Throwable;", false)
  | 1 => ("java/lang/Throwable", "stackTrace", "[Ljava/lang/StackTraceElement;", false)
  | 2 => ("java/lang/Throwable", "suppressedExceptions", "Ljava/util/List;", false)
  | 3 => ("java/lang/Throwable", "detailMessage", "Ljava/lang/String;", false)
  | 4 => ("java/lang/Throwable", "backtrace", "Ljava/lang/Object;", false)
  | 5 => ("java/lang/Throwable", "depth", "I", false)
  | 6 => ("WeatherWages$Wrong", "kind", "I", true)
  | _ => ("WeatherWages$Wrong", "place", "I", true)
def tyX6 : Nat → FieldType := fun k => match k with
  | 0 => .object "java/lang/Throwable"
  | 1 => .array (.object "java/lang/StackTraceElement")
  | 2 => .object "java/util/List"
  | 3 => .object "java/lang/String"
  | 4 => .object "java/lang/Object"
  | 5 => .int
  | 6 => .int
  | _ => .int
abbrev wsX60 : List Cond := u_ws RX6 TX6 8
theorem nmX6 : ∀ a, a < 8 → ∀ b, b < 8 → a ≠ b → (TX6 a).2.1 ≠ (TX6 b).2.1 := by decide +kernel
theorem tyX6_ok : ∀ k, k < 8 → parseFieldDescriptor (TX6 k).2.2.1 = some (tyX6 k) := by decide +kernel
abbrev cX6_init : ByteArray := prog_20_method_1_code
def yX6_init : MethodName := ⟨RX6, "<init>", "(II)V"⟩
def dkwX6_init_0 : List UInt8 := [42, 1, 1, 3, 3, 183, 0, 1, 42, 27, 181, 0, 7, 42, 28, 181, 0, 13, 177]
abbrev dktX6_init_0 : List UInt8 := dkwX6_init_0 ++ []
theorem dksX6_init_0 : cX6_init.data.toList.drop 0 = dktX6_init_0 := by decide +kernel
theorem dX6_init_0 : decode cX6_init 0 = .ok (.aload_n 0, 1) := dk_42 (dk_at dksX6_init_0 0 rfl rfl)
theorem dX6_init_1 : decode cX6_init 1 = .ok (.aconst_null, 1) := dk_1 (dk_at dksX6_init_0 1 rfl rfl)
theorem dX6_init_2 : decode cX6_init 2 = .ok (.aconst_null, 1) := dk_1 (dk_at dksX6_init_0 2 rfl rfl)
theorem dX6_init_3 : decode cX6_init 3 = .ok (.iconst 0, 1) := dk_3 (dk_at dksX6_init_0 3 rfl rfl)
theorem dX6_init_4 : decode cX6_init 4 = .ok (.iconst 0, 1) := dk_3 (dk_at dksX6_init_0 4 rfl rfl)
theorem dX6_init_5 : decode cX6_init 5 = .ok (.invokespecial 1, 3) := dk_183 0 1 (dk_at dksX6_init_0 5 rfl rfl)
theorem dX6_init_8 : decode cX6_init 8 = .ok (.aload_n 0, 1) := dk_42 (dk_at dksX6_init_0 8 rfl rfl)
theorem dX6_init_9 : decode cX6_init 9 = .ok (.iload_n 1, 1) := dk_27 (dk_at dksX6_init_0 9 rfl rfl)
theorem dX6_init_10 : decode cX6_init 10 = .ok (.putfield 7, 3) := dk_181 0 7 (dk_at dksX6_init_0 10 rfl rfl)
theorem dX6_init_13 : decode cX6_init 13 = .ok (.aload_n 0, 1) := dk_42 (dk_at dksX6_init_0 13 rfl rfl)
theorem dX6_init_14 : decode cX6_init 14 = .ok (.iload_n 2, 1) := dk_28 (dk_at dksX6_init_0 14 rfl rfl)
theorem dX6_init_15 : decode cX6_init 15 = .ok (.putfield 13, 3) := dk_181 0 13 (dk_at dksX6_init_0 15 rfl rfl)
theorem dX6_init_18 : decode cX6_init 18 = .ok (.return_, 1) := dk_177 (dk_at dksX6_init_0 18 rfl rfl)
theorem q163 : (Jvm.Cond.initialized "WeatherWages$Wrong") ∈ lw_all := lw_g (lw_at lw_m1 23 rfl) rfl
theorem q834 : (Jvm.Cond.instantiable "WeatherWages$Wrong" (8 : Nat)) ∈ lw_all := lw_g (lw_at lw_m3 214 rfl) rfl
theorem q835 : (Jvm.Cond.castable "WeatherWages$Wrong" "WeatherWages$Wrong") ∈ lw_tbl := lw_at lw_m3 215 rfl
theorem q840 : (Jvm.Cond.selects "WeatherWages$Wrong" ({ cls := "java/lang/Throwable", name := "fillInStackTrace", desc := "(I)Ljava/lang/Throwable;" } : Jvm.MethodName) ({ cls := "java/lang/Throwable", name := "fillInStackTrace", desc := "(I)Ljava/lang/Throwable;" } : Jvm.MethodName)) ∈ lw_all := lw_g (lw_at lw_m3 220 rfl) rfl
theorem q841 : (Jvm.Cond.selects "WeatherWages$Wrong" ({ cls := "java/lang/Throwable", name := "fillInStackTrace", desc := "()Ljava/lang/Throwable;" } : Jvm.MethodName) ({ cls := "java/lang/Throwable", name := "fillInStackTrace", desc := "()Ljava/lang/Throwable;" } : Jvm.MethodName)) ∈ lw_all := lw_g (lw_at lw_m3 221 rfl) rfl
theorem q842 : (Jvm.Cond.lays "WeatherWages$Wrong" "java/lang/Throwable" "cause" "Ljava/lang/Throwable;") ∈ lw_all := lw_g (lw_at lw_m3 222 rfl) rfl
theorem q844 : (Jvm.Cond.lays "WeatherWages$Wrong" "java/lang/Throwable" "stackTrace" "[Ljava/lang/StackTraceElement;") ∈ lw_all := lw_g (lw_at lw_m3 224 rfl) rfl
theorem q846 : (Jvm.Cond.lays "WeatherWages$Wrong" "java/lang/Throwable" "suppressedExceptions" "Ljava/util/List;") ∈ lw_all := lw_g (lw_at lw_m3 226 rfl) rfl
theorem q848 : (Jvm.Cond.lays "WeatherWages$Wrong" "java/lang/Throwable" "detailMessage" "Ljava/lang/String;") ∈ lw_all := lw_g (lw_at lw_m3 228 rfl) rfl
theorem q850 : (Jvm.Cond.lays "WeatherWages$Wrong" "java/lang/Throwable" "backtrace" "Ljava/lang/Object;") ∈ lw_all := lw_g (lw_at lw_m3 230 rfl) rfl
theorem q871 : (Jvm.Cond.instanceMethod ({ cls := "WeatherWages$Wrong", name := "<init>", desc := "(II)V" } : Jvm.MethodName)) ∈ lw_all := lw_g (lw_at lw_m4 11 rfl) rfl
theorem q872 : (Jvm.Cond.code ({ cls := "WeatherWages$Wrong", name := "<init>", desc := "(II)V" } : Jvm.MethodName) prog_20_method_1_code (3 : Nat) (Option.none : Option Jvm.ClassFile.FieldType)) ∈ lw_all := lw_g (lw_at lw_m4 12 rfl) rfl
theorem q873 : (Jvm.Cond.methodLink "WeatherWages$Wrong" (1 : Nat) ({ cls := "java/lang/Exception", name := "<init>", desc := "(Ljava/lang/String;Ljava/lang/Throwable;ZZ)V" } : Jvm.MethodName)) ∈ lw_all := lw_g (lw_at lw_m4 13 rfl) rfl
theorem q879 : (Jvm.Cond.fieldLink "WeatherWages$Wrong" (7 : Nat) "WeatherWages$Wrong" "kind" "I") ∈ lw_all := lw_g (lw_at lw_m4 19 rfl) rfl
theorem q881 : (Jvm.Cond.fieldLink "WeatherWages$Wrong" (13 : Nat) "WeatherWages$Wrong" "place" "I") ∈ lw_all := lw_g (lw_at lw_m4 21 rfl) rfl
theorem q888 : (Jvm.Cond.laysFinal "WeatherWages$Wrong" "WeatherWages$Wrong" "kind" "I") ∈ lw_all := lw_g (lw_at lw_m4 28 rfl) rfl
theorem q889 : (Jvm.Cond.soleField "WeatherWages$Wrong" "kind") ∈ lw_all := lw_g (lw_at lw_m4 29 rfl) rfl
theorem q890 : (Jvm.Cond.laysFinal "WeatherWages$Wrong" "WeatherWages$Wrong" "place" "I") ∈ lw_all := lw_g (lw_at lw_m4 30 rfl) rfl
theorem q891 : (Jvm.Cond.soleField "WeatherWages$Wrong" "place") ∈ lw_all := lw_g (lw_at lw_m4 31 rfl) rfl
theorem q896 : (Jvm.Cond.lays "WeatherWages$Wrong" "java/lang/Throwable" "depth" "I") ∈ lw_all := lw_g (lw_at lw_m4 36 rfl) rfl
theorem q899 : (Jvm.Cond.superclass "WeatherWages$Wrong" "java/lang/Exception") ∈ lw_all := lw_g (lw_at lw_m4 39 rfl) rfl
theorem q942 : (Jvm.Cond.selects "WeatherWages$Wrong" ({ cls := "java/lang/Object", name := "getClass", desc := "()Ljava/lang/Class;" } : Jvm.MethodName) ({ cls := "java/lang/Object", name := "getClass", desc := "()Ljava/lang/Class;" } : Jvm.MethodName)) ∈ lw_all := lw_g (lw_at lw_m4 82 rfl) rfl
theorem q2469 : (Jvm.Cond.castable "WeatherWages$Wrong" "java/lang/Object") ∈ lw_tbl := lw_at lw_m10 169 rfl
theorem in_X6 : ∀ w ∈ wsX60, w ∈ lw_all := lw_in wsX60 [842, 844, 846, 848, 850, 896, 888, 890] (by decide +kernel) (by decide +kernel)
/-! WeatherWages$Man -/
set_option maxRecDepth 100000
def RX7 : String := "WeatherWages$Man"
def TX7 : u_T := fun k => match k with
  | 0 => ("WeatherWages$Man", "name", "Ljava/lang/String;", true)
  | 1 => ("WeatherWages$Man", "purse", "[I", true)
  | 2 => ("WeatherWages$Man", "pay", "[I", true)
  | 3 => ("WeatherWages$Man", "crop", "I", false)
  | 4 => ("WeatherWages$Man", "pursed", "I", false)
  | 5 => ("WeatherWages$Man", "paid", "I", false)
  | 6 => ("WeatherWages$Man", "hedge", "I", false)
  | 7 => ("WeatherWages$Man", "isLoose", "Z", false)
  | _ => ("WeatherWages$Man", "hasHedge", "Z", false)
def tyX7 : Nat → FieldType := fun k => match k with
  | 0 => .object "java/lang/String"
  | 1 => .array .int
  | 2 => .array .int
  | 3 => .int
  | 4 => .int
  | 5 => .int
  | 6 => .int
  | 7 => .boolean
  | _ => .boolean
abbrev wsX70 : List Cond := u_ws RX7 TX7 9
theorem nmX7 : ∀ a, a < 9 → ∀ b, b < 9 → a ≠ b → (TX7 a).2.1 ≠ (TX7 b).2.1 := by decide +kernel
theorem tyX7_ok : ∀ k, k < 9 → parseFieldDescriptor (TX7 k).2.2.1 = some (tyX7 k) := by decide +kernel
abbrev cX7_init : ByteArray := prog_11_method_1_code
def yX7_init : MethodName := ⟨RX7, "<init>", "(Ljava/lang/String;)V"⟩
def dkwX7_init_1 : List UInt8 := [42, 43, 181, 0, 22, 177]
abbrev dktX7_init_1 : List UInt8 := dkwX7_init_1 ++ []
def dkwX7_init_0 : List UInt8 := [42, 183, 0, 3, 42, 6, 188, 10, 181, 0, 9, 42, 6, 188, 10, 181, 0, 15, 42, 16, 10, 181, 0, 18]
abbrev dktX7_init_0 : List UInt8 := dkwX7_init_0 ++ dktX7_init_1
theorem dksX7_init_0 : cX7_init.data.toList.drop 0 = dktX7_init_0 := by decide +kernel
theorem dksX7_init_1 : cX7_init.data.toList.drop 24 = dktX7_init_1 := dk_seg dksX7_init_0 24 rfl rfl
theorem dX7_init_0 : decode cX7_init 0 = .ok (.aload_n 0, 1) := dk_42 (dk_at dksX7_init_0 0 rfl rfl)
theorem dX7_init_1 : decode cX7_init 1 = .ok (.invokespecial 3, 3) := dk_183 0 3 (dk_at dksX7_init_0 1 rfl rfl)
theorem dX7_init_4 : decode cX7_init 4 = .ok (.aload_n 0, 1) := dk_42 (dk_at dksX7_init_0 4 rfl rfl)
theorem dX7_init_5 : decode cX7_init 5 = .ok (.iconst 3, 1) := dk_6 (dk_at dksX7_init_0 5 rfl rfl)
theorem dX7_init_6 : decode cX7_init 6 = .ok (.newarray .int, 2) := dk_188_10 (dk_at dksX7_init_0 6 rfl rfl)
theorem dX7_init_8 : decode cX7_init 8 = .ok (.putfield 9, 3) := dk_181 0 9 (dk_at dksX7_init_0 8 rfl rfl)
theorem dX7_init_11 : decode cX7_init 11 = .ok (.aload_n 0, 1) := dk_42 (dk_at dksX7_init_0 11 rfl rfl)
theorem dX7_init_12 : decode cX7_init 12 = .ok (.iconst 3, 1) := dk_6 (dk_at dksX7_init_0 12 rfl rfl)
theorem dX7_init_13 : decode cX7_init 13 = .ok (.newarray .int, 2) := dk_188_10 (dk_at dksX7_init_0 13 rfl rfl)
theorem dX7_init_15 : decode cX7_init 15 = .ok (.putfield 15, 3) := dk_181 0 15 (dk_at dksX7_init_0 15 rfl rfl)
theorem dX7_init_18 : decode cX7_init 18 = .ok (.aload_n 0, 1) := dk_42 (dk_at dksX7_init_0 18 rfl rfl)
theorem dX7_init_19 : decode cX7_init 19 = .ok (.bipush 10, 2) := dk_16 10 (dk_at dksX7_init_0 19 rfl rfl)
theorem dX7_init_21 : decode cX7_init 21 = .ok (.putfield 18, 3) := dk_181 0 18 (dk_at dksX7_init_0 21 rfl rfl)
theorem dX7_init_24 : decode cX7_init 24 = .ok (.aload_n 0, 1) := dk_42 (dk_at dksX7_init_1 0 rfl rfl)
theorem dX7_init_25 : decode cX7_init 25 = .ok (.aload_n 1, 1) := dk_43 (dk_at dksX7_init_1 1 rfl rfl)
theorem dX7_init_26 : decode cX7_init 26 = .ok (.putfield 22, 3) := dk_181 0 22 (dk_at dksX7_init_1 2 rfl rfl)
theorem dX7_init_29 : decode cX7_init 29 = .ok (.return_, 1) := dk_177 (dk_at dksX7_init_1 5 rfl rfl)
abbrev cX7_wages : ByteArray := prog_11_method_2_code
def yX7_wages : MethodName := ⟨RX7, "wages", "()I"⟩
def dkwX7_wages_0 : List UInt8 := [42, 180, 0, 15, 3, 46, 42, 180, 0, 15, 4, 46, 96, 42, 180, 0, 15, 5, 46, 96, 172]
abbrev dktX7_wages_0 : List UInt8 := dkwX7_wages_0 ++ []
theorem dksX7_wages_0 : cX7_wages.data.toList.drop 0 = dktX7_wages_0 := by decide +kernel
theorem dX7_wages_0 : decode cX7_wages 0 = .ok (.aload_n 0, 1) := dk_42 (dk_at dksX7_wages_0 0 rfl rfl)
theorem dX7_wages_1 : decode cX7_wages 1 = .ok (.getfield 15, 3) := dk_180 0 15 (dk_at dksX7_wages_0 1 rfl rfl)
theorem dX7_wages_4 : decode cX7_wages 4 = .ok (.iconst 0, 1) := dk_3 (dk_at dksX7_wages_0 4 rfl rfl)
theorem dX7_wages_5 : decode cX7_wages 5 = .ok (.iaload, 1) := dk_46 (dk_at dksX7_wages_0 5 rfl rfl)
theorem dX7_wages_6 : decode cX7_wages 6 = .ok (.aload_n 0, 1) := dk_42 (dk_at dksX7_wages_0 6 rfl rfl)
theorem dX7_wages_7 : decode cX7_wages 7 = .ok (.getfield 15, 3) := dk_180 0 15 (dk_at dksX7_wages_0 7 rfl rfl)
theorem dX7_wages_10 : decode cX7_wages 10 = .ok (.iconst 1, 1) := dk_4 (dk_at dksX7_wages_0 10 rfl rfl)
theorem dX7_wages_11 : decode cX7_wages 11 = .ok (.iaload, 1) := dk_46 (dk_at dksX7_wages_0 11 rfl rfl)
theorem dX7_wages_12 : decode cX7_wages 12 = .ok (.iadd, 1) := dk_96 (dk_at dksX7_wages_0 12 rfl rfl)
theorem dX7_wages_13 : decode cX7_wages 13 = .ok (.aload_n 0, 1) := dk_42 (dk_at dksX7_wages_0 13 rfl rfl)
theorem dX7_wages_14 : decode cX7_wages 14 = .ok (.getfield 15, 3) := dk_180 0 15 (dk_at dksX7_wages_0 14 rfl rfl)
theorem dX7_wages_17 : decode cX7_wages 17 = .ok (.iconst 2, 1) := dk_5 (dk_at dksX7_wages_0 17 rfl rfl)
theorem dX7_wages_18 : decode cX7_wages 18 = .ok (.iaload, 1) := dk_46 (dk_at dksX7_wages_0 18 rfl rfl)
theorem dX7_wages_19 : decode cX7_wages 19 = .ok (.iadd, 1) := dk_96 (dk_at dksX7_wages_0 19 rfl rfl)
theorem dX7_wages_20 : decode cX7_wages 20 = .ok (.ireturn, 1) := dk_172 (dk_at dksX7_wages_0 20 rfl rfl)
theorem q164 : (Jvm.Cond.initialized "WeatherWages$Man") ∈ lw_all := lw_g (lw_at lw_m1 24 rfl) rfl
theorem q934 : (Jvm.Cond.selects "WeatherWages$Man" ({ cls := "java/lang/Object", name := "getClass", desc := "()Ljava/lang/Class;" } : Jvm.MethodName) ({ cls := "java/lang/Object", name := "getClass", desc := "()Ljava/lang/Class;" } : Jvm.MethodName)) ∈ lw_all := lw_g (lw_at lw_m4 74 rfl) rfl
theorem q961 : (Jvm.Cond.instantiable "WeatherWages$Man" (9 : Nat)) ∈ lw_all := lw_g (lw_at lw_m4 101 rfl) rfl
theorem q968 : (Jvm.Cond.instanceMethod ({ cls := "WeatherWages$Man", name := "<init>", desc := "(Ljava/lang/String;)V" } : Jvm.MethodName)) ∈ lw_all := lw_g (lw_at lw_m4 108 rfl) rfl
theorem q969 : (Jvm.Cond.code ({ cls := "WeatherWages$Man", name := "<init>", desc := "(Ljava/lang/String;)V" } : Jvm.MethodName) prog_11_method_1_code (2 : Nat) (Option.none : Option Jvm.ClassFile.FieldType)) ∈ lw_all := lw_g (lw_at lw_m4 109 rfl) rfl
theorem q970 : (Jvm.Cond.methodLink "WeatherWages$Man" (3 : Nat) ({ cls := "java/lang/Object", name := "<init>", desc := "()V" } : Jvm.MethodName)) ∈ lw_all := lw_g (lw_at lw_m4 110 rfl) rfl
theorem q971 : (Jvm.Cond.fieldLink "WeatherWages$Man" (22 : Nat) "WeatherWages$Man" "name" "Ljava/lang/String;") ∈ lw_all := lw_g (lw_at lw_m4 111 rfl) rfl
theorem q973 : (Jvm.Cond.fieldLink "WeatherWages$Man" (9 : Nat) "WeatherWages$Man" "purse" "[I") ∈ lw_all := lw_g (lw_at lw_m4 113 rfl) rfl
theorem q976 : (Jvm.Cond.fieldLink "WeatherWages$Man" (15 : Nat) "WeatherWages$Man" "pay" "[I") ∈ lw_all := lw_g (lw_at lw_m4 116 rfl) rfl
theorem q984 : (Jvm.Cond.fieldLink "WeatherWages$Man" (18 : Nat) "WeatherWages$Man" "hedge" "I") ∈ lw_all := lw_g (lw_at lw_m4 124 rfl) rfl
theorem q992 : (Jvm.Cond.laysFinal "WeatherWages$Man" "WeatherWages$Man" "name" "Ljava/lang/String;") ∈ lw_all := lw_g (lw_at lw_m4 132 rfl) rfl
theorem q993 : (Jvm.Cond.soleField "WeatherWages$Man" "name") ∈ lw_all := lw_g (lw_at lw_m4 133 rfl) rfl
theorem q994 : (Jvm.Cond.laysFinal "WeatherWages$Man" "WeatherWages$Man" "purse" "[I") ∈ lw_all := lw_g (lw_at lw_m4 134 rfl) rfl
theorem q995 : (Jvm.Cond.soleField "WeatherWages$Man" "purse") ∈ lw_all := lw_g (lw_at lw_m4 135 rfl) rfl
theorem q996 : (Jvm.Cond.laysFinal "WeatherWages$Man" "WeatherWages$Man" "pay" "[I") ∈ lw_all := lw_g (lw_at lw_m4 136 rfl) rfl
theorem q997 : (Jvm.Cond.soleField "WeatherWages$Man" "pay") ∈ lw_all := lw_g (lw_at lw_m4 137 rfl) rfl
theorem q998 : (Jvm.Cond.lays "WeatherWages$Man" "WeatherWages$Man" "crop" "I") ∈ lw_all := lw_g (lw_at lw_m4 138 rfl) rfl
theorem q999 : (Jvm.Cond.soleField "WeatherWages$Man" "crop") ∈ lw_all := lw_g (lw_at lw_m4 139 rfl) rfl
theorem q1000 : (Jvm.Cond.lays "WeatherWages$Man" "WeatherWages$Man" "pursed" "I") ∈ lw_all := lw_g (lw_at lw_m4 140 rfl) rfl
theorem q1001 : (Jvm.Cond.soleField "WeatherWages$Man" "pursed") ∈ lw_all := lw_g (lw_at lw_m4 141 rfl) rfl
theorem q1002 : (Jvm.Cond.lays "WeatherWages$Man" "WeatherWages$Man" "paid" "I") ∈ lw_all := lw_g (lw_at lw_m4 142 rfl) rfl
theorem q1003 : (Jvm.Cond.soleField "WeatherWages$Man" "paid") ∈ lw_all := lw_g (lw_at lw_m4 143 rfl) rfl
theorem q1004 : (Jvm.Cond.lays "WeatherWages$Man" "WeatherWages$Man" "hedge" "I") ∈ lw_all := lw_g (lw_at lw_m4 144 rfl) rfl
theorem q1005 : (Jvm.Cond.soleField "WeatherWages$Man" "hedge") ∈ lw_all := lw_g (lw_at lw_m4 145 rfl) rfl
theorem q1006 : (Jvm.Cond.lays "WeatherWages$Man" "WeatherWages$Man" "isLoose" "Z") ∈ lw_all := lw_g (lw_at lw_m4 146 rfl) rfl
theorem q1007 : (Jvm.Cond.soleField "WeatherWages$Man" "isLoose") ∈ lw_all := lw_g (lw_at lw_m4 147 rfl) rfl
theorem q1008 : (Jvm.Cond.lays "WeatherWages$Man" "WeatherWages$Man" "hasHedge" "Z") ∈ lw_all := lw_g (lw_at lw_m4 148 rfl) rfl
theorem q1009 : (Jvm.Cond.soleField "WeatherWages$Man" "hasHedge") ∈ lw_all := lw_g (lw_at lw_m4 149 rfl) rfl
theorem q1010 : (Jvm.Cond.superclass "WeatherWages$Man" "java/lang/Object") ∈ lw_all := lw_g (lw_at lw_m4 150 rfl) rfl
theorem q1334 : (Jvm.Cond.instanceMethod ({ cls := "WeatherWages$Man", name := "wages", desc := "()I" } : Jvm.MethodName)) ∈ lw_all := lw_g (lw_at lw_m5 234 rfl) rfl
theorem q1335 : (Jvm.Cond.selects "WeatherWages$Man" ({ cls := "WeatherWages$Man", name := "wages", desc := "()I" } : Jvm.MethodName) ({ cls := "WeatherWages$Man", name := "wages", desc := "()I" } : Jvm.MethodName)) ∈ lw_all := lw_g (lw_at lw_m5 235 rfl) rfl
theorem q1336 : (Jvm.Cond.code ({ cls := "WeatherWages$Man", name := "wages", desc := "()I" } : Jvm.MethodName) prog_11_method_2_code (1 : Nat) (Option.some Jvm.ClassFile.FieldType.int)) ∈ lw_all := lw_g (lw_at lw_m5 236 rfl) rfl
theorem q2470 : (Jvm.Cond.castable "WeatherWages$Man" "java/lang/Object") ∈ lw_tbl := lw_at lw_m10 170 rfl
theorem in_X7 : ∀ w ∈ wsX70, w ∈ lw_all := lw_in wsX70 [992, 994, 996, 998, 1000, 1002, 1004, 1006, 1008] (by decide +kernel) (by decide +kernel)
/-! WeatherWages$Rate -/
set_option maxRecDepth 100000
def RX8 : String := "WeatherWages$Rate"
def TX8 : u_T := fun k => match k with
  | 0 => ("WeatherWages$Rate", "from", "I", true)
  | 1 => ("WeatherWages$Rate", "to", "I", true)
  | 2 => ("WeatherWages$Rate", "costs", "I", true)
  | _ => ("WeatherWages$Rate", "brings", "I", true)
def tyX8 : Nat → FieldType := fun k => match k with
  | 0 => .int
  | 1 => .int
  | 2 => .int
  | _ => .int
abbrev wsX80 : List Cond := u_ws RX8 TX8 4
theorem nmX8 : ∀ a, a < 4 → ∀ b, b < 4 → a ≠ b → (TX8 a).2.1 ≠ (TX8 b).2.1 := by decide +kernel
theorem tyX8_ok : ∀ k, k < 4 → parseFieldDescriptor (TX8 k).2.2.1 = some (tyX8 k) := by decide +kernel
abbrev cX8_init : ByteArray := prog_16_method_1_code
def yX8_init : MethodName := ⟨RX8, "<init>", "(IIII)V"⟩
def dkwX8_init_1 : List UInt8 := [181, 0, 19, 177]
abbrev dktX8_init_1 : List UInt8 := dkwX8_init_1 ++ []
def dkwX8_init_0 : List UInt8 := [42, 183, 0, 1, 42, 27, 181, 0, 7, 42, 28, 181, 0, 13, 42, 29, 181, 0, 16, 42, 21, 4]
abbrev dktX8_init_0 : List UInt8 := dkwX8_init_0 ++ dktX8_init_1
theorem dksX8_init_0 : cX8_init.data.toList.drop 0 = dktX8_init_0 := by decide +kernel
theorem dksX8_init_1 : cX8_init.data.toList.drop 22 = dktX8_init_1 := dk_seg dksX8_init_0 22 rfl rfl
theorem dX8_init_0 : decode cX8_init 0 = .ok (.aload_n 0, 1) := dk_42 (dk_at dksX8_init_0 0 rfl rfl)
theorem dX8_init_1 : decode cX8_init 1 = .ok (.invokespecial 1, 3) := dk_183 0 1 (dk_at dksX8_init_0 1 rfl rfl)
theorem dX8_init_4 : decode cX8_init 4 = .ok (.aload_n 0, 1) := dk_42 (dk_at dksX8_init_0 4 rfl rfl)
theorem dX8_init_5 : decode cX8_init 5 = .ok (.iload_n 1, 1) := dk_27 (dk_at dksX8_init_0 5 rfl rfl)
theorem dX8_init_6 : decode cX8_init 6 = .ok (.putfield 7, 3) := dk_181 0 7 (dk_at dksX8_init_0 6 rfl rfl)
theorem dX8_init_9 : decode cX8_init 9 = .ok (.aload_n 0, 1) := dk_42 (dk_at dksX8_init_0 9 rfl rfl)
theorem dX8_init_10 : decode cX8_init 10 = .ok (.iload_n 2, 1) := dk_28 (dk_at dksX8_init_0 10 rfl rfl)
theorem dX8_init_11 : decode cX8_init 11 = .ok (.putfield 13, 3) := dk_181 0 13 (dk_at dksX8_init_0 11 rfl rfl)
theorem dX8_init_14 : decode cX8_init 14 = .ok (.aload_n 0, 1) := dk_42 (dk_at dksX8_init_0 14 rfl rfl)
theorem dX8_init_15 : decode cX8_init 15 = .ok (.iload_n 3, 1) := dk_29 (dk_at dksX8_init_0 15 rfl rfl)
theorem dX8_init_16 : decode cX8_init 16 = .ok (.putfield 16, 3) := dk_181 0 16 (dk_at dksX8_init_0 16 rfl rfl)
theorem dX8_init_19 : decode cX8_init 19 = .ok (.aload_n 0, 1) := dk_42 (dk_at dksX8_init_0 19 rfl rfl)
theorem dX8_init_20 : decode cX8_init 20 = .ok (.iload 4, 2) := dk_21 4 (dk_at dksX8_init_0 20 rfl rfl)
theorem dX8_init_22 : decode cX8_init 22 = .ok (.putfield 19, 3) := dk_181 0 19 (dk_at dksX8_init_1 0 rfl rfl)
theorem dX8_init_25 : decode cX8_init 25 = .ok (.return_, 1) := dk_177 (dk_at dksX8_init_1 3 rfl rfl)
theorem q166 : (Jvm.Cond.initialized "WeatherWages$Rate") ∈ lw_all := lw_g (lw_at lw_m1 26 rfl) rfl
theorem q938 : (Jvm.Cond.selects "WeatherWages$Rate" ({ cls := "java/lang/Object", name := "getClass", desc := "()Ljava/lang/Class;" } : Jvm.MethodName) ({ cls := "java/lang/Object", name := "getClass", desc := "()Ljava/lang/Class;" } : Jvm.MethodName)) ∈ lw_all := lw_g (lw_at lw_m4 78 rfl) rfl
theorem q1108 : (Jvm.Cond.instantiable "WeatherWages$Rate" (4 : Nat)) ∈ lw_all := lw_g (lw_at lw_m5 8 rfl) rfl
theorem q1110 : (Jvm.Cond.instanceMethod ({ cls := "WeatherWages$Rate", name := "<init>", desc := "(IIII)V" } : Jvm.MethodName)) ∈ lw_all := lw_g (lw_at lw_m5 10 rfl) rfl
theorem q1111 : (Jvm.Cond.code ({ cls := "WeatherWages$Rate", name := "<init>", desc := "(IIII)V" } : Jvm.MethodName) prog_16_method_1_code (5 : Nat) (Option.none : Option Jvm.ClassFile.FieldType)) ∈ lw_all := lw_g (lw_at lw_m5 11 rfl) rfl
theorem q1112 : (Jvm.Cond.methodLink "WeatherWages$Rate" (1 : Nat) ({ cls := "java/lang/Object", name := "<init>", desc := "()V" } : Jvm.MethodName)) ∈ lw_all := lw_g (lw_at lw_m5 12 rfl) rfl
theorem q1113 : (Jvm.Cond.fieldLink "WeatherWages$Rate" (7 : Nat) "WeatherWages$Rate" "from" "I") ∈ lw_all := lw_g (lw_at lw_m5 13 rfl) rfl
theorem q1115 : (Jvm.Cond.fieldLink "WeatherWages$Rate" (13 : Nat) "WeatherWages$Rate" "to" "I") ∈ lw_all := lw_g (lw_at lw_m5 15 rfl) rfl
theorem q1117 : (Jvm.Cond.fieldLink "WeatherWages$Rate" (16 : Nat) "WeatherWages$Rate" "costs" "I") ∈ lw_all := lw_g (lw_at lw_m5 17 rfl) rfl
theorem q1119 : (Jvm.Cond.fieldLink "WeatherWages$Rate" (19 : Nat) "WeatherWages$Rate" "brings" "I") ∈ lw_all := lw_g (lw_at lw_m5 19 rfl) rfl
theorem q1121 : (Jvm.Cond.laysFinal "WeatherWages$Rate" "WeatherWages$Rate" "from" "I") ∈ lw_all := lw_g (lw_at lw_m5 21 rfl) rfl
theorem q1122 : (Jvm.Cond.soleField "WeatherWages$Rate" "from") ∈ lw_all := lw_g (lw_at lw_m5 22 rfl) rfl
theorem q1123 : (Jvm.Cond.laysFinal "WeatherWages$Rate" "WeatherWages$Rate" "to" "I") ∈ lw_all := lw_g (lw_at lw_m5 23 rfl) rfl
theorem q1124 : (Jvm.Cond.soleField "WeatherWages$Rate" "to") ∈ lw_all := lw_g (lw_at lw_m5 24 rfl) rfl
theorem q1125 : (Jvm.Cond.laysFinal "WeatherWages$Rate" "WeatherWages$Rate" "costs" "I") ∈ lw_all := lw_g (lw_at lw_m5 25 rfl) rfl
theorem q1126 : (Jvm.Cond.soleField "WeatherWages$Rate" "costs") ∈ lw_all := lw_g (lw_at lw_m5 26 rfl) rfl
theorem q1127 : (Jvm.Cond.laysFinal "WeatherWages$Rate" "WeatherWages$Rate" "brings" "I") ∈ lw_all := lw_g (lw_at lw_m5 27 rfl) rfl
theorem q1128 : (Jvm.Cond.soleField "WeatherWages$Rate" "brings") ∈ lw_all := lw_g (lw_at lw_m5 28 rfl) rfl
theorem q1129 : (Jvm.Cond.superclass "WeatherWages$Rate" "java/lang/Object") ∈ lw_all := lw_g (lw_at lw_m5 29 rfl) rfl
theorem q2472 : (Jvm.Cond.castable "WeatherWages$Rate" "java/lang/Object") ∈ lw_tbl := lw_at lw_m10 172 rfl
theorem in_X8 : ∀ w ∈ wsX80, w ∈ lw_all := lw_in wsX80 [1121, 1123, 1125, 1127] (by decide +kernel) (by decide +kernel)
/-! WeatherWages$Not -/
set_option maxRecDepth 100000
def RX9 : String := "WeatherWages$Not"
def TX9 : u_T := fun k => match k with
  | _ => ("WeatherWages$Not", "n", "LWeatherWages$Node;", true)
def tyX9 : Nat → FieldType := fun k => match k with
  | _ => .object "WeatherWages$Node"
abbrev wsX90 : List Cond := u_ws RX9 TX9 1
theorem nmX9 : ∀ a, a < 1 → ∀ b, b < 1 → a ≠ b → (TX9 a).2.1 ≠ (TX9 b).2.1 := by decide +kernel
theorem tyX9_ok : ∀ k, k < 1 → parseFieldDescriptor (TX9 k).2.2.1 = some (tyX9 k) := by decide +kernel
abbrev cX9_init : ByteArray := prog_13_method_1_code
def yX9_init : MethodName := ⟨RX9, "<init>", "(LWeatherWages$Node;)V"⟩
def dkwX9_init_0 : List UInt8 := [42, 183, 0, 1, 42, 43, 181, 0, 7, 177]
abbrev dktX9_init_0 : List UInt8 := dkwX9_init_0 ++ []
theorem dksX9_init_0 : cX9_init.data.toList.drop 0 = dktX9_init_0 := by decide +kernel
theorem dX9_init_0 : decode cX9_init 0 = .ok (.aload_n 0, 1) := dk_42 (dk_at dksX9_init_0 0 rfl rfl)
theorem dX9_init_1 : decode cX9_init 1 = .ok (.invokespecial 1, 3) := dk_183 0 1 (dk_at dksX9_init_0 1 rfl rfl)
theorem dX9_init_4 : decode cX9_init 4 = .ok (.aload_n 0, 1) := dk_42 (dk_at dksX9_init_0 4 rfl rfl)
theorem dX9_init_5 : decode cX9_init 5 = .ok (.aload_n 1, 1) := dk_43 (dk_at dksX9_init_0 5 rfl rfl)
theorem dX9_init_6 : decode cX9_init 6 = .ok (.putfield 7, 3) := dk_181 0 7 (dk_at dksX9_init_0 6 rfl rfl)
theorem dX9_init_9 : decode cX9_init 9 = .ok (.return_, 1) := dk_177 (dk_at dksX9_init_0 9 rfl rfl)
abbrev cX9_of : ByteArray := prog_13_method_2_code
def yX9_of : MethodName := ⟨RX9, "of", "(LWeatherWages$Ask;)I"⟩
def dkwX9_of_0 : List UInt8 := [42, 180, 0, 7, 43, 185, 0, 13, 2, 0, 154, 0, 7, 4, 167, 0, 4, 3, 172]
abbrev dktX9_of_0 : List UInt8 := dkwX9_of_0 ++ []
theorem dksX9_of_0 : cX9_of.data.toList.drop 0 = dktX9_of_0 := by decide +kernel
theorem dX9_of_0 : decode cX9_of 0 = .ok (.aload_n 0, 1) := dk_42 (dk_at dksX9_of_0 0 rfl rfl)
theorem dX9_of_1 : decode cX9_of 1 = .ok (.getfield 7, 3) := dk_180 0 7 (dk_at dksX9_of_0 1 rfl rfl)
theorem dX9_of_4 : decode cX9_of 4 = .ok (.aload_n 1, 1) := dk_43 (dk_at dksX9_of_0 4 rfl rfl)
theorem dX9_of_5 : decode cX9_of 5 = .ok (.invokeinterface 13 2, 5) := by decide +kernel
theorem dX9_of_10 : decode cX9_of 10 = .ok (.ifCond .ne 7, 3) := dk_154 0 7 (dk_at dksX9_of_0 10 rfl rfl)
theorem dX9_of_13 : decode cX9_of 13 = .ok (.iconst 1, 1) := dk_4 (dk_at dksX9_of_0 13 rfl rfl)
theorem dX9_of_14 : decode cX9_of 14 = .ok (.goto 4, 3) := dk_167 0 4 (dk_at dksX9_of_0 14 rfl rfl)
theorem dX9_of_17 : decode cX9_of 17 = .ok (.iconst 0, 1) := dk_3 (dk_at dksX9_of_0 17 rfl rfl)
theorem dX9_of_18 : decode cX9_of 18 = .ok (.ireturn, 1) := dk_172 (dk_at dksX9_of_0 18 rfl rfl)
theorem q167 : (Jvm.Cond.initialized "WeatherWages$Not") ∈ lw_all := lw_g (lw_at lw_m1 27 rfl) rfl
theorem q935 : (Jvm.Cond.selects "WeatherWages$Not" ({ cls := "java/lang/Object", name := "getClass", desc := "()Ljava/lang/Class;" } : Jvm.MethodName) ({ cls := "java/lang/Object", name := "getClass", desc := "()Ljava/lang/Class;" } : Jvm.MethodName)) ∈ lw_all := lw_g (lw_at lw_m4 75 rfl) rfl
theorem q1155 : (Jvm.Cond.instantiable "WeatherWages$Not" (1 : Nat)) ∈ lw_all := lw_g (lw_at lw_m5 55 rfl) rfl
theorem q1157 : (Jvm.Cond.instanceMethod ({ cls := "WeatherWages$Not", name := "<init>", desc := "(LWeatherWages$Node;)V" } : Jvm.MethodName)) ∈ lw_all := lw_g (lw_at lw_m5 57 rfl) rfl
theorem q1158 : (Jvm.Cond.code ({ cls := "WeatherWages$Not", name := "<init>", desc := "(LWeatherWages$Node;)V" } : Jvm.MethodName) prog_13_method_1_code (2 : Nat) (Option.none : Option Jvm.ClassFile.FieldType)) ∈ lw_all := lw_g (lw_at lw_m5 58 rfl) rfl
theorem q1159 : (Jvm.Cond.methodLink "WeatherWages$Not" (1 : Nat) ({ cls := "java/lang/Object", name := "<init>", desc := "()V" } : Jvm.MethodName)) ∈ lw_all := lw_g (lw_at lw_m5 59 rfl) rfl
theorem q1160 : (Jvm.Cond.fieldLink "WeatherWages$Not" (7 : Nat) "WeatherWages$Not" "n" "LWeatherWages$Node;") ∈ lw_all := lw_g (lw_at lw_m5 60 rfl) rfl
theorem q1161 : (Jvm.Cond.laysFinal "WeatherWages$Not" "WeatherWages$Not" "n" "LWeatherWages$Node;") ∈ lw_all := lw_g (lw_at lw_m5 61 rfl) rfl
theorem q1162 : (Jvm.Cond.soleField "WeatherWages$Not" "n") ∈ lw_all := lw_g (lw_at lw_m5 62 rfl) rfl
theorem q1163 : (Jvm.Cond.superclass "WeatherWages$Not" "java/lang/Object") ∈ lw_all := lw_g (lw_at lw_m5 63 rfl) rfl
theorem q1301 : (Jvm.Cond.castable "WeatherWages$Not" "WeatherWages$Node") ∈ lw_tbl := lw_at lw_m5 201 rfl
theorem q1302 : (Jvm.Cond.selects "WeatherWages$Not" ({ cls := "WeatherWages$Node", name := "of", desc := "(LWeatherWages$Ask;)I" } : Jvm.MethodName) ({ cls := "WeatherWages$Not", name := "of", desc := "(LWeatherWages$Ask;)I" } : Jvm.MethodName)) ∈ lw_all := lw_g (lw_at lw_m5 202 rfl) rfl
theorem q1303 : (Jvm.Cond.unhidden "WeatherWages$Not" "of" "(LWeatherWages$Ask;)I") ∈ lw_tbl := lw_at lw_m5 203 rfl
theorem q1304 : (Jvm.Cond.instanceMethod ({ cls := "WeatherWages$Not", name := "of", desc := "(LWeatherWages$Ask;)I" } : Jvm.MethodName)) ∈ lw_all := lw_g (lw_at lw_m5 204 rfl) rfl
theorem q1305 : (Jvm.Cond.publicMethod ({ cls := "WeatherWages$Not", name := "of", desc := "(LWeatherWages$Ask;)I" } : Jvm.MethodName)) ∈ lw_tbl := lw_at lw_m5 205 rfl
theorem q1306 : (Jvm.Cond.code ({ cls := "WeatherWages$Not", name := "of", desc := "(LWeatherWages$Ask;)I" } : Jvm.MethodName) prog_13_method_2_code (2 : Nat) (Option.some Jvm.ClassFile.FieldType.int)) ∈ lw_all := lw_g (lw_at lw_m5 206 rfl) rfl
theorem q1307 : (Jvm.Cond.interfaceEntry "WeatherWages$Not" (13 : Nat)) ∈ lw_tbl := lw_at lw_m5 207 rfl
theorem q1308 : (Jvm.Cond.methodLink "WeatherWages$Not" (13 : Nat) ({ cls := "WeatherWages$Node", name := "of", desc := "(LWeatherWages$Ask;)I" } : Jvm.MethodName)) ∈ lw_all := lw_g (lw_at lw_m5 208 rfl) rfl
theorem q2473 : (Jvm.Cond.castable "WeatherWages$Not" "java/lang/Object") ∈ lw_tbl := lw_at lw_m10 173 rfl
theorem in_X9 : ∀ w ∈ wsX90, w ∈ lw_all := lw_in wsX90 [1161] (by decide +kernel) (by decide +kernel)

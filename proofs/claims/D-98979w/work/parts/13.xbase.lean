/-! THE COMPONENT'S WORLD: cells by number; kinds 10 + class number, arrays 0 .. 6, 9999 none; names from 1000000 on: what was there before (texts, constants) -/
set_option maxRecDepth 100000
def clX : List vw_C := [(RX0, TX0, 30), (RX1, TX1, 10), (RX2, TX2, 6), (RX3, TX3, 6), (RX5, TX5, 11), (RX6, TX6, 8), (RX7, TX7, 9), (RX8, TX8, 4), (RX9, TX9, 1), (RX10, TX10, 1), (RX11, TX11, 3), (RX12, TX12, 7), (RJ2, TJ2, 3), (RJ15, TJ15, 4), (RJ6, TJ6, 4), (RJ7, TJ7, 4)]
def fkX : Nat → List Nat := fun c => match c with
  | 0 => [1, 0, 0, 0, 1, 1, 1, 1, 1, 0, 1, 0, 0, 1, 1, 1, 0, 0, 0, 1, 1, 1, 0, 0, 0, 1, 1, 1, 1, 1]
  | 1 => [1, 1, 1, 1, 1, 1, 0, 0, 0, 0]
  | 2 => [0, 0, 0, 0, 0, 0]
  | 3 => [1, 1, 1, 1, 0, 0]
  | 4 => [0, 0, 0, 0, 0, 0, 0, 0, 1, 1, 1]
  | 5 => [1, 1, 1, 1, 1, 0, 0, 0]
  | 6 => [1, 1, 1, 0, 0, 0, 0, 0, 0]
  | 7 => [0, 0, 0, 0]
  | 8 => [1]
  | 9 => [0]
  | 10 => [1, 1, 0]
  | 11 => [0, 0, 0, 0, 0, 0, 1]
  | 12 => [0, 1, 0]
  | 13 => [0, 0, 0, 1]
  | 14 => [1, 0, 0, 0]
  | 15 => [1, 0, 0, 0]
  | _ => []
/-- words that do not ride in the lists -/
def nwX : List Cond := [Cond.declares ({ cls := "java/lang/Throwable", name := "<init>", desc := "()V" } : Jvm.MethodName), Cond.declares ({ cls := "java/lang/Throwable", name := "<init>", desc := "(Ljava/lang/String;)V" } : Jvm.MethodName), Cond.castable "java/lang/Throwable" "java/lang/Object", Cond.declares ({ cls := "java/lang/Exception", name := "<init>", desc := "()V" } : Jvm.MethodName), Cond.declares ({ cls := "java/lang/Exception", name := "<init>", desc := "(Ljava/lang/String;)V" } : Jvm.MethodName), Cond.fieldLinkNest "java/util/ArrayList$Itr" (28 : Nat) "java/util/ArrayList" "size" "I" "java/util/ArrayList", Cond.castable "java/util/ArrayList$Itr" "java/util/Iterator", Cond.castable "java/util/ArrayList$Itr" "java/lang/Object", Cond.declares ({ cls := "java/lang/Object", name := "getClass", desc := "()Ljava/lang/Class;" } : Jvm.MethodName), Cond.castable "java/lang/System$2" "jdk/internal/access/JavaLangAccess", Cond.castable "java/lang/System$2" "java/lang/Object", Cond.castable "java/util/ArrayList" "java/lang/Object", Cond.castable "java/lang/StringBuilder" "java/lang/Object", Cond.castable "java/lang/String" "java/lang/Object", Cond.methodLinkNest "WeatherWages" (19 : Nat) ({ cls := "WeatherWages$Book", name := "<init>", desc := "()V" } : Jvm.MethodName) "WeatherWages", Cond.methodLinkNest "WeatherWages" (26 : Nat) ({ cls := "WeatherWages$Plots", name := "<init>", desc := "()V" } : Jvm.MethodName) "WeatherWages", Cond.methodLinkNest "WeatherWages" (96 : Nat) ({ cls := "WeatherWages$Reader", name := "<init>", desc := "(LWeatherWages;)V" } : Jvm.MethodName) "WeatherWages", Cond.castable "WeatherWages" "java/lang/Object", Cond.methodLinkNest "WeatherWages$Book" (32 : Nat) ({ cls := "WeatherWages$Ask", name := "<init>", desc := "()V" } : Jvm.MethodName) "WeatherWages", Cond.castable "WeatherWages$Book" "java/lang/Object", Cond.castable "WeatherWages$Value" "WeatherWages$Node", Cond.castable "WeatherWages$Value" "java/lang/Object", Cond.castable "WeatherWages$Pair" "WeatherWages$Node", Cond.castable "WeatherWages$Pair" "java/lang/Object", Cond.fieldLinkNest "WeatherWages$Sight" (32 : Nat) "WeatherWages" "time" "I" "WeatherWages", Cond.methodLinkNest "WeatherWages$Sight" (38 : Nat) ({ cls := "WeatherWages", name := "bookOf", desc := "(I)I" } : Jvm.MethodName) "WeatherWages", Cond.castable "WeatherWages$Sight" "java/lang/Object", Cond.castable "WeatherWages$Asked$1" "WeatherWages$Node", Cond.castable "WeatherWages$Asked$1" "java/lang/Object", Cond.castable "WeatherWages$Asked$2" "WeatherWages$Node", Cond.castable "WeatherWages$Asked$2" "java/lang/Object", Cond.castable "WeatherWages$Asked$3" "WeatherWages$Node", Cond.castable "WeatherWages$Asked$3" "java/lang/Object", Cond.castable "WeatherWages$Asked$4" "WeatherWages$Node", Cond.castable "WeatherWages$Asked$4" "java/lang/Object", Cond.castable "WeatherWages$Asked$5" "WeatherWages$Node", Cond.castable "WeatherWages$Asked$5" "java/lang/Object", Cond.castable "WeatherWages$Asked$6" "WeatherWages$Node", Cond.castable "WeatherWages$Asked$6" "java/lang/Object", Cond.castable "WeatherWages$Ask" "java/lang/Object", Cond.castable "WeatherWages$Plots" "java/lang/Object", Cond.castable "WeatherWagesModel" "java/lang/Object", Cond.fieldLinkNest "WeatherWages$Reader" (35 : Nat) "WeatherWages" "tape" "[B" "WeatherWages", Cond.fieldLinkNest "WeatherWages$Reader" (32 : Nat) "WeatherWages" "taped" "I" "WeatherWages", Cond.methodLinkNest "WeatherWages$Reader" (23 : Nat) ({ cls := "WeatherWages$Book", name := "<init>", desc := "()V" } : Jvm.MethodName) "WeatherWages", Cond.castable "WeatherWages$Reader" "java/lang/Object", Cond.castable "WeatherWages$Wrong" "WeatherWages$Wrong", Cond.castable "WeatherWages$Wrong" "java/lang/Object", Cond.castable "WeatherWages$Man" "java/lang/Object", Cond.castable "WeatherWages$Rate" "java/lang/Object", Cond.castable "WeatherWages$Not" "WeatherWages$Node", Cond.castable "WeatherWages$Not" "java/lang/Object", Cond.castable "WeatherWages$Asked" "java/lang/Object", Cond.declares ({ cls := "WeatherWages$Node", name := "of", desc := "(LWeatherWages$Ask;)I" } : Jvm.MethodName), Cond.castable "[B" "java/lang/Cloneable", Cond.castable "[B" "java/lang/Object", Cond.castable "[I" "java/lang/Object", Cond.castable "[J" "java/lang/Object", Cond.castable "[LWeatherWages$Plots;" "java/lang/Object", Cond.castable "[Ljava/lang/Object;" "java/lang/Object", Cond.castable "[Z" "java/lang/Object", Cond.castable "[[I" "java/lang/Object", Cond.declares ({ cls := "java/util/Iterator", name := "hasNext", desc := "()Z" } : Jvm.MethodName), Cond.declares ({ cls := "java/util/Iterator", name := "next", desc := "()Ljava/lang/Object;" } : Jvm.MethodName), Cond.declares ({ cls := "jdk/internal/access/JavaLangAccess", name := "getUTF16Char", desc := "([BI)C" } : Jvm.MethodName)]
theorem nwX_tbl : ∀ w ∈ nwX, w ∈ lw_tbl := by
  unfold nwX
  exact List.forall_mem_cons.mpr ⟨q838, List.forall_mem_cons.mpr ⟨q839, List.forall_mem_cons.mpr ⟨q2483, List.forall_mem_cons.mpr ⟨q836, List.forall_mem_cons.mpr ⟨q837, List.forall_mem_cons.mpr ⟨q205, List.forall_mem_cons.mpr ⟨q1087, List.forall_mem_cons.mpr ⟨q2471, List.forall_mem_cons.mpr ⟨q2486, List.forall_mem_cons.mpr ⟨q783, List.forall_mem_cons.mpr ⟨q2468, List.forall_mem_cons.mpr ⟨q2462, List.forall_mem_cons.mpr ⟨q2466, List.forall_mem_cons.mpr ⟨q2467, List.forall_mem_cons.mpr ⟨q183, List.forall_mem_cons.mpr ⟨q300, List.forall_mem_cons.mpr ⟨q467, List.forall_mem_cons.mpr ⟨q2460, List.forall_mem_cons.mpr ⟨q221, List.forall_mem_cons.mpr ⟨q2461, List.forall_mem_cons.mpr ⟨q1317, List.forall_mem_cons.mpr ⟨q2480, List.forall_mem_cons.mpr ⟨q1309, List.forall_mem_cons.mpr ⟨q2481, List.forall_mem_cons.mpr ⟨q368, List.forall_mem_cons.mpr ⟨q1658, List.forall_mem_cons.mpr ⟨q2482, List.forall_mem_cons.mpr ⟨q1265, List.forall_mem_cons.mpr ⟨q2474, List.forall_mem_cons.mpr ⟨q1271, List.forall_mem_cons.mpr ⟨q2475, List.forall_mem_cons.mpr ⟨q1277, List.forall_mem_cons.mpr ⟨q2476, List.forall_mem_cons.mpr ⟨q1283, List.forall_mem_cons.mpr ⟨q2477, List.forall_mem_cons.mpr ⟨q1289, List.forall_mem_cons.mpr ⟨q2478, List.forall_mem_cons.mpr ⟨q1295, List.forall_mem_cons.mpr ⟨q2479, List.forall_mem_cons.mpr ⟨q2463, List.forall_mem_cons.mpr ⟨q2459, List.forall_mem_cons.mpr ⟨q2464, List.forall_mem_cons.mpr ⟨q358, List.forall_mem_cons.mpr ⟨q359, List.forall_mem_cons.mpr ⟨q473, List.forall_mem_cons.mpr ⟨q2465, List.forall_mem_cons.mpr ⟨q835, List.forall_mem_cons.mpr ⟨q2469, List.forall_mem_cons.mpr ⟨q2470, List.forall_mem_cons.mpr ⟨q2472, List.forall_mem_cons.mpr ⟨q1301, List.forall_mem_cons.mpr ⟨q2473, List.forall_mem_cons.mpr ⟨q2487, List.forall_mem_cons.mpr ⟨q1264, List.forall_mem_cons.mpr ⟨q589, List.forall_mem_cons.mpr ⟨q2489, List.forall_mem_cons.mpr ⟨q2490, List.forall_mem_cons.mpr ⟨q2494, List.forall_mem_cons.mpr ⟨q2491, List.forall_mem_cons.mpr ⟨q2488, List.forall_mem_cons.mpr ⟨q2493, List.forall_mem_cons.mpr ⟨q2492, List.forall_mem_cons.mpr ⟨q1086, List.forall_mem_cons.mpr ⟨q1096, List.forall_mem_cons.mpr ⟨q782, fun _ h => absurd h List.not_mem_nil⟩⟩⟩⟩⟩⟩⟩⟩⟩⟩⟩⟩⟩⟩⟩⟩⟩⟩⟩⟩⟩⟩⟩⟩⟩⟩⟩⟩⟩⟩⟩⟩⟩⟩⟩⟩⟩⟩⟩⟩⟩⟩⟩⟩⟩⟩⟩⟩⟩⟩⟩⟩⟩⟩⟩⟩⟩⟩⟩⟩⟩⟩⟩⟩⟩
theorem nw_q838 : (Cond.declares ({ cls := "java/lang/Throwable", name := "<init>", desc := "()V" } : Jvm.MethodName)) ∈ nwX := List.mem_of_getElem? (i := 0) rfl
theorem nw_q839 : (Cond.declares ({ cls := "java/lang/Throwable", name := "<init>", desc := "(Ljava/lang/String;)V" } : Jvm.MethodName)) ∈ nwX := List.mem_of_getElem? (i := 1) rfl
theorem nw_q2483 : (Cond.castable "java/lang/Throwable" "java/lang/Object") ∈ nwX := List.mem_of_getElem? (i := 2) rfl
theorem nw_q836 : (Cond.declares ({ cls := "java/lang/Exception", name := "<init>", desc := "()V" } : Jvm.MethodName)) ∈ nwX := List.mem_of_getElem? (i := 3) rfl
theorem nw_q837 : (Cond.declares ({ cls := "java/lang/Exception", name := "<init>", desc := "(Ljava/lang/String;)V" } : Jvm.MethodName)) ∈ nwX := List.mem_of_getElem? (i := 4) rfl
theorem nw_q205 : (Cond.fieldLinkNest "java/util/ArrayList$Itr" (28 : Nat) "java/util/ArrayList" "size" "I" "java/util/ArrayList") ∈ nwX := List.mem_of_getElem? (i := 5) rfl
theorem nw_q1087 : (Cond.castable "java/util/ArrayList$Itr" "java/util/Iterator") ∈ nwX := List.mem_of_getElem? (i := 6) rfl
theorem nw_q2471 : (Cond.castable "java/util/ArrayList$Itr" "java/lang/Object") ∈ nwX := List.mem_of_getElem? (i := 7) rfl
theorem nw_q2486 : (Cond.declares ({ cls := "java/lang/Object", name := "getClass", desc := "()Ljava/lang/Class;" } : Jvm.MethodName)) ∈ nwX := List.mem_of_getElem? (i := 8) rfl
theorem nw_q783 : (Cond.castable "java/lang/System$2" "jdk/internal/access/JavaLangAccess") ∈ nwX := List.mem_of_getElem? (i := 9) rfl
theorem nw_q2468 : (Cond.castable "java/lang/System$2" "java/lang/Object") ∈ nwX := List.mem_of_getElem? (i := 10) rfl
theorem nw_q2462 : (Cond.castable "java/util/ArrayList" "java/lang/Object") ∈ nwX := List.mem_of_getElem? (i := 11) rfl
theorem nw_q2466 : (Cond.castable "java/lang/StringBuilder" "java/lang/Object") ∈ nwX := List.mem_of_getElem? (i := 12) rfl
theorem nw_q2467 : (Cond.castable "java/lang/String" "java/lang/Object") ∈ nwX := List.mem_of_getElem? (i := 13) rfl
theorem nw_q183 : (Cond.methodLinkNest "WeatherWages" (19 : Nat) ({ cls := "WeatherWages$Book", name := "<init>", desc := "()V" } : Jvm.MethodName) "WeatherWages") ∈ nwX := List.mem_of_getElem? (i := 14) rfl
theorem nw_q300 : (Cond.methodLinkNest "WeatherWages" (26 : Nat) ({ cls := "WeatherWages$Plots", name := "<init>", desc := "()V" } : Jvm.MethodName) "WeatherWages") ∈ nwX := List.mem_of_getElem? (i := 15) rfl
theorem nw_q467 : (Cond.methodLinkNest "WeatherWages" (96 : Nat) ({ cls := "WeatherWages$Reader", name := "<init>", desc := "(LWeatherWages;)V" } : Jvm.MethodName) "WeatherWages") ∈ nwX := List.mem_of_getElem? (i := 16) rfl
theorem nw_q2460 : (Cond.castable "WeatherWages" "java/lang/Object") ∈ nwX := List.mem_of_getElem? (i := 17) rfl
theorem nw_q221 : (Cond.methodLinkNest "WeatherWages$Book" (32 : Nat) ({ cls := "WeatherWages$Ask", name := "<init>", desc := "()V" } : Jvm.MethodName) "WeatherWages") ∈ nwX := List.mem_of_getElem? (i := 18) rfl
theorem nw_q2461 : (Cond.castable "WeatherWages$Book" "java/lang/Object") ∈ nwX := List.mem_of_getElem? (i := 19) rfl
theorem nw_q1317 : (Cond.castable "WeatherWages$Value" "WeatherWages$Node") ∈ nwX := List.mem_of_getElem? (i := 20) rfl
theorem nw_q2480 : (Cond.castable "WeatherWages$Value" "java/lang/Object") ∈ nwX := List.mem_of_getElem? (i := 21) rfl
theorem nw_q1309 : (Cond.castable "WeatherWages$Pair" "WeatherWages$Node") ∈ nwX := List.mem_of_getElem? (i := 22) rfl
theorem nw_q2481 : (Cond.castable "WeatherWages$Pair" "java/lang/Object") ∈ nwX := List.mem_of_getElem? (i := 23) rfl
theorem nw_q368 : (Cond.fieldLinkNest "WeatherWages$Sight" (32 : Nat) "WeatherWages" "time" "I" "WeatherWages") ∈ nwX := List.mem_of_getElem? (i := 24) rfl
theorem nw_q1658 : (Cond.methodLinkNest "WeatherWages$Sight" (38 : Nat) ({ cls := "WeatherWages", name := "bookOf", desc := "(I)I" } : Jvm.MethodName) "WeatherWages") ∈ nwX := List.mem_of_getElem? (i := 25) rfl
theorem nw_q2482 : (Cond.castable "WeatherWages$Sight" "java/lang/Object") ∈ nwX := List.mem_of_getElem? (i := 26) rfl
theorem nw_q1265 : (Cond.castable "WeatherWages$Asked$1" "WeatherWages$Node") ∈ nwX := List.mem_of_getElem? (i := 27) rfl
theorem nw_q2474 : (Cond.castable "WeatherWages$Asked$1" "java/lang/Object") ∈ nwX := List.mem_of_getElem? (i := 28) rfl
theorem nw_q1271 : (Cond.castable "WeatherWages$Asked$2" "WeatherWages$Node") ∈ nwX := List.mem_of_getElem? (i := 29) rfl
theorem nw_q2475 : (Cond.castable "WeatherWages$Asked$2" "java/lang/Object") ∈ nwX := List.mem_of_getElem? (i := 30) rfl
theorem nw_q1277 : (Cond.castable "WeatherWages$Asked$3" "WeatherWages$Node") ∈ nwX := List.mem_of_getElem? (i := 31) rfl
theorem nw_q2476 : (Cond.castable "WeatherWages$Asked$3" "java/lang/Object") ∈ nwX := List.mem_of_getElem? (i := 32) rfl
theorem nw_q1283 : (Cond.castable "WeatherWages$Asked$4" "WeatherWages$Node") ∈ nwX := List.mem_of_getElem? (i := 33) rfl
theorem nw_q2477 : (Cond.castable "WeatherWages$Asked$4" "java/lang/Object") ∈ nwX := List.mem_of_getElem? (i := 34) rfl
theorem nw_q1289 : (Cond.castable "WeatherWages$Asked$5" "WeatherWages$Node") ∈ nwX := List.mem_of_getElem? (i := 35) rfl
theorem nw_q2478 : (Cond.castable "WeatherWages$Asked$5" "java/lang/Object") ∈ nwX := List.mem_of_getElem? (i := 36) rfl
theorem nw_q1295 : (Cond.castable "WeatherWages$Asked$6" "WeatherWages$Node") ∈ nwX := List.mem_of_getElem? (i := 37) rfl
theorem nw_q2479 : (Cond.castable "WeatherWages$Asked$6" "java/lang/Object") ∈ nwX := List.mem_of_getElem? (i := 38) rfl
theorem nw_q2463 : (Cond.castable "WeatherWages$Ask" "java/lang/Object") ∈ nwX := List.mem_of_getElem? (i := 39) rfl
theorem nw_q2459 : (Cond.castable "WeatherWages$Plots" "java/lang/Object") ∈ nwX := List.mem_of_getElem? (i := 40) rfl
theorem nw_q2464 : (Cond.castable "WeatherWagesModel" "java/lang/Object") ∈ nwX := List.mem_of_getElem? (i := 41) rfl
theorem nw_q358 : (Cond.fieldLinkNest "WeatherWages$Reader" (35 : Nat) "WeatherWages" "tape" "[B" "WeatherWages") ∈ nwX := List.mem_of_getElem? (i := 42) rfl
theorem nw_q359 : (Cond.fieldLinkNest "WeatherWages$Reader" (32 : Nat) "WeatherWages" "taped" "I" "WeatherWages") ∈ nwX := List.mem_of_getElem? (i := 43) rfl
theorem nw_q473 : (Cond.methodLinkNest "WeatherWages$Reader" (23 : Nat) ({ cls := "WeatherWages$Book", name := "<init>", desc := "()V" } : Jvm.MethodName) "WeatherWages") ∈ nwX := List.mem_of_getElem? (i := 44) rfl
theorem nw_q2465 : (Cond.castable "WeatherWages$Reader" "java/lang/Object") ∈ nwX := List.mem_of_getElem? (i := 45) rfl
theorem nw_q835 : (Cond.castable "WeatherWages$Wrong" "WeatherWages$Wrong") ∈ nwX := List.mem_of_getElem? (i := 46) rfl
theorem nw_q2469 : (Cond.castable "WeatherWages$Wrong" "java/lang/Object") ∈ nwX := List.mem_of_getElem? (i := 47) rfl
theorem nw_q2470 : (Cond.castable "WeatherWages$Man" "java/lang/Object") ∈ nwX := List.mem_of_getElem? (i := 48) rfl
theorem nw_q2472 : (Cond.castable "WeatherWages$Rate" "java/lang/Object") ∈ nwX := List.mem_of_getElem? (i := 49) rfl
theorem nw_q1301 : (Cond.castable "WeatherWages$Not" "WeatherWages$Node") ∈ nwX := List.mem_of_getElem? (i := 50) rfl
theorem nw_q2473 : (Cond.castable "WeatherWages$Not" "java/lang/Object") ∈ nwX := List.mem_of_getElem? (i := 51) rfl
theorem nw_q2487 : (Cond.castable "WeatherWages$Asked" "java/lang/Object") ∈ nwX := List.mem_of_getElem? (i := 52) rfl
theorem nw_q1264 : (Cond.declares ({ cls := "WeatherWages$Node", name := "of", desc := "(LWeatherWages$Ask;)I" } : Jvm.MethodName)) ∈ nwX := List.mem_of_getElem? (i := 53) rfl
theorem nw_q589 : (Cond.castable "[B" "java/lang/Cloneable") ∈ nwX := List.mem_of_getElem? (i := 54) rfl
theorem nw_q2489 : (Cond.castable "[B" "java/lang/Object") ∈ nwX := List.mem_of_getElem? (i := 55) rfl
theorem nw_q2490 : (Cond.castable "[I" "java/lang/Object") ∈ nwX := List.mem_of_getElem? (i := 56) rfl
theorem nw_q2494 : (Cond.castable "[J" "java/lang/Object") ∈ nwX := List.mem_of_getElem? (i := 57) rfl
theorem nw_q2491 : (Cond.castable "[LWeatherWages$Plots;" "java/lang/Object") ∈ nwX := List.mem_of_getElem? (i := 58) rfl
theorem nw_q2488 : (Cond.castable "[Ljava/lang/Object;" "java/lang/Object") ∈ nwX := List.mem_of_getElem? (i := 59) rfl
theorem nw_q2493 : (Cond.castable "[Z" "java/lang/Object") ∈ nwX := List.mem_of_getElem? (i := 60) rfl
theorem nw_q2492 : (Cond.castable "[[I" "java/lang/Object") ∈ nwX := List.mem_of_getElem? (i := 61) rfl
theorem nw_q1086 : (Cond.declares ({ cls := "java/util/Iterator", name := "hasNext", desc := "()Z" } : Jvm.MethodName)) ∈ nwX := List.mem_of_getElem? (i := 62) rfl
theorem nw_q1096 : (Cond.declares ({ cls := "java/util/Iterator", name := "next", desc := "()Ljava/lang/Object;" } : Jvm.MethodName)) ∈ nwX := List.mem_of_getElem? (i := 63) rfl
theorem nw_q782 : (Cond.declares ({ cls := "jdk/internal/access/JavaLangAccess", name := "getUTF16Char", desc := "([BI)C" } : Jvm.MethodName)) ∈ nwX := List.mem_of_getElem? (i := 64) rfl
def fwX : List (String × MethodName × MethodName) := [("java/util/ArrayList$Itr", (⟨"java/util/Iterator", "hasNext", "()Z"⟩ : MethodName), (⟨"java/util/ArrayList$Itr", "hasNext", "()Z"⟩ : MethodName)), ("java/util/ArrayList$Itr", (⟨"java/util/Iterator", "next", "()Ljava/lang/Object;"⟩ : MethodName), (⟨"java/util/ArrayList$Itr", "next", "()Ljava/lang/Object;"⟩ : MethodName)), ("WeatherWages$Value", (⟨"WeatherWages$Node", "of", "(LWeatherWages$Ask;)I"⟩ : MethodName), (⟨"WeatherWages$Value", "of", "(LWeatherWages$Ask;)I"⟩ : MethodName)), ("WeatherWages$Not", (⟨"WeatherWages$Node", "of", "(LWeatherWages$Ask;)I"⟩ : MethodName), (⟨"WeatherWages$Not", "of", "(LWeatherWages$Ask;)I"⟩ : MethodName)), ("WeatherWages$Pair", (⟨"WeatherWages$Node", "of", "(LWeatherWages$Ask;)I"⟩ : MethodName), (⟨"WeatherWages$Pair", "of", "(LWeatherWages$Ask;)I"⟩ : MethodName)), ("WeatherWages$Asked$1", (⟨"WeatherWages$Node", "of", "(LWeatherWages$Ask;)I"⟩ : MethodName), (⟨"WeatherWages$Asked$1", "of", "(LWeatherWages$Ask;)I"⟩ : MethodName)), ("WeatherWages$Asked$2", (⟨"WeatherWages$Node", "of", "(LWeatherWages$Ask;)I"⟩ : MethodName), (⟨"WeatherWages$Asked$2", "of", "(LWeatherWages$Ask;)I"⟩ : MethodName)), ("WeatherWages$Asked$3", (⟨"WeatherWages$Node", "of", "(LWeatherWages$Ask;)I"⟩ : MethodName), (⟨"WeatherWages$Asked$3", "of", "(LWeatherWages$Ask;)I"⟩ : MethodName)), ("WeatherWages$Asked$4", (⟨"WeatherWages$Node", "of", "(LWeatherWages$Ask;)I"⟩ : MethodName), (⟨"WeatherWages$Asked$4", "of", "(LWeatherWages$Ask;)I"⟩ : MethodName)), ("WeatherWages$Asked$5", (⟨"WeatherWages$Node", "of", "(LWeatherWages$Ask;)I"⟩ : MethodName), (⟨"WeatherWages$Asked$5", "of", "(LWeatherWages$Ask;)I"⟩ : MethodName)), ("WeatherWages$Asked$6", (⟨"WeatherWages$Node", "of", "(LWeatherWages$Ask;)I"⟩ : MethodName), (⟨"WeatherWages$Asked$6", "of", "(LWeatherWages$Ask;)I"⟩ : MethodName))]
theorem fw_0 : ("java/util/ArrayList$Itr", (⟨"java/util/Iterator", "hasNext", "()Z"⟩ : MethodName), (⟨"java/util/ArrayList$Itr", "hasNext", "()Z"⟩ : MethodName)) ∈ fwX := List.mem_of_getElem? (i := 0) rfl
theorem fw_1 : ("java/util/ArrayList$Itr", (⟨"java/util/Iterator", "next", "()Ljava/lang/Object;"⟩ : MethodName), (⟨"java/util/ArrayList$Itr", "next", "()Ljava/lang/Object;"⟩ : MethodName)) ∈ fwX := List.mem_of_getElem? (i := 1) rfl
theorem fw_2 : ("WeatherWages$Value", (⟨"WeatherWages$Node", "of", "(LWeatherWages$Ask;)I"⟩ : MethodName), (⟨"WeatherWages$Value", "of", "(LWeatherWages$Ask;)I"⟩ : MethodName)) ∈ fwX := List.mem_of_getElem? (i := 2) rfl
theorem fw_3 : ("WeatherWages$Not", (⟨"WeatherWages$Node", "of", "(LWeatherWages$Ask;)I"⟩ : MethodName), (⟨"WeatherWages$Not", "of", "(LWeatherWages$Ask;)I"⟩ : MethodName)) ∈ fwX := List.mem_of_getElem? (i := 3) rfl
theorem fw_4 : ("WeatherWages$Pair", (⟨"WeatherWages$Node", "of", "(LWeatherWages$Ask;)I"⟩ : MethodName), (⟨"WeatherWages$Pair", "of", "(LWeatherWages$Ask;)I"⟩ : MethodName)) ∈ fwX := List.mem_of_getElem? (i := 4) rfl
theorem fw_5 : ("WeatherWages$Asked$1", (⟨"WeatherWages$Node", "of", "(LWeatherWages$Ask;)I"⟩ : MethodName), (⟨"WeatherWages$Asked$1", "of", "(LWeatherWages$Ask;)I"⟩ : MethodName)) ∈ fwX := List.mem_of_getElem? (i := 5) rfl
theorem fw_6 : ("WeatherWages$Asked$2", (⟨"WeatherWages$Node", "of", "(LWeatherWages$Ask;)I"⟩ : MethodName), (⟨"WeatherWages$Asked$2", "of", "(LWeatherWages$Ask;)I"⟩ : MethodName)) ∈ fwX := List.mem_of_getElem? (i := 6) rfl
theorem fw_7 : ("WeatherWages$Asked$3", (⟨"WeatherWages$Node", "of", "(LWeatherWages$Ask;)I"⟩ : MethodName), (⟨"WeatherWages$Asked$3", "of", "(LWeatherWages$Ask;)I"⟩ : MethodName)) ∈ fwX := List.mem_of_getElem? (i := 7) rfl
theorem fw_8 : ("WeatherWages$Asked$4", (⟨"WeatherWages$Node", "of", "(LWeatherWages$Ask;)I"⟩ : MethodName), (⟨"WeatherWages$Asked$4", "of", "(LWeatherWages$Ask;)I"⟩ : MethodName)) ∈ fwX := List.mem_of_getElem? (i := 8) rfl
theorem fw_9 : ("WeatherWages$Asked$5", (⟨"WeatherWages$Node", "of", "(LWeatherWages$Ask;)I"⟩ : MethodName), (⟨"WeatherWages$Asked$5", "of", "(LWeatherWages$Ask;)I"⟩ : MethodName)) ∈ fwX := List.mem_of_getElem? (i := 9) rfl
theorem fw_10 : ("WeatherWages$Asked$6", (⟨"WeatherWages$Node", "of", "(LWeatherWages$Ask;)I"⟩ : MethodName), (⟨"WeatherWages$Asked$6", "of", "(LWeatherWages$Ask;)I"⟩ : MethodName)) ∈ fwX := List.mem_of_getElem? (i := 10) rfl
def asN : List String := ["WeatherWages$Asked$1", "WeatherWages$Asked$2", "WeatherWages$Asked$3", "WeatherWages$Asked$4", "WeatherWages$Asked$5", "WeatherWages$Asked$6"]
def asF : List String := ["A_FIRST", "A_SECOND", "A_THIRD", "A_CROP", "A_WEEK", "A_PLOT"]
def stK : List Nat := [15, 104, 106, 108, 110, 112, 114, 116, 118, 120, 122, 124, 126, 128, 130, 132, 134, 136, 138, 140, 142, 144]
def stX : List String := ["", "kind", "man", "crop", "loose", "purse", "pay", "hedge", "rate", "for", "book", "grow", "hours", "draw", "first", "second", "third", "week", "plot", "and", "or", "not"]
def stL : List Nat := [0, 4, 3, 4, 5, 5, 3, 5, 4, 3, 4, 4, 5, 4, 5, 6, 5, 4, 4, 3, 2, 3]
def stB : List (List Int32) := [[], [107, 105, 110, 100], [109, 97, 110], [99, 114, 111, 112], [108, 111, 111, 115, 101], [112, 117, 114, 115, 101], [112, 97, 121], [104, 101, 100, 103, 101], [114, 97, 116, 101], [102, 111, 114], [98, 111, 111, 107], [103, 114, 111, 119], [104, 111, 117, 114, 115], [100, 114, 97, 119], [102, 105, 114, 115, 116], [115, 101, 99, 111, 110, 100], [116, 104, 105, 114, 100], [119, 101, 101, 107], [112, 108, 111, 116], [97, 110, 100], [111, 114], [110, 111, 116]]
def nwOk (w : Cond) : Bool := match w with
  | .castable _ _ => true
  | .fieldLinkNest _ _ _ _ _ _ => true
  | .methodLinkNest _ _ _ _ => true
  | .declares _ => true
  | _ => false
theorem nwX_ok : nwX.all nwOk = true := rfl
theorem nw_warm {w : Cond} (h : nwOk w = true) {s U : State} (hW : s.WarmedH U.vm) (hZ : va_Nw w s) : va_Nw w U := by
  cases w <;> first | (exact va_Nw.warmC hW hZ) | (exact va_Nw.warmF hW hZ) | (exact va_Nw.warmM hW hZ) | (exact va_Nw.warmD hW hZ) | (cases h)
theorem nw_on {w : Cond} (h : nwOk w = true) : w.onTables = true := by
  cases w <;> first | rfl | (cases h)
theorem fwX_ok : ∀ q ∈ fwX, q.2.1.cls ≠ "java/lang/invoke/MethodHandle" ∧ q.2.1.cls ≠ "java/lang/invoke/VarHandle" := by decide +kernel
/-- int[][] can be made -/
def g_AA (U : State) : Prop := (Cond.arrayOver (.array .int)).before #[] U = true
theorem g_AA.moved {u U : State} (hvm : u.vm.Alike U.vm) (h : g_AA u) : g_AA U := by
  unfold g_AA at h ⊢
  simp only [Cond.before, Cond.holds, Cond.value] at h ⊢
  rw [hvm.findClass]
  cases hf : u.vm.findClass (FieldType.array .int).toString with
  | none => rw [hf] at h; simp at h
  | some comp =>
    rw [hf] at h
    simp only [Option.bind_some] at h ⊢
    rw [hvm.findIdx_congr _ (fun _ _ _ _ => rfl)]
    generalize hF : (u.vm.classes.findIdx? fun (x : Class) => match x.kind with | .array component _ => component == comp | _ => false) = fi at h ⊢
    cases fi with
    | none => simp at h
    | some c =>
      simp only [Option.bind_some] at h ⊢
      cases hk : u.vm.classes[c]? with
      | none => rw [hk] at h; simp at h
      | some k =>
        obtain ⟨k', hk', ek⟩ := hvm.2.2 _ _ hk
        rw [hk] at h
        rw [hk', hvm.findClass]
        have ekind : k'.kind = k.kind := by rw [ek]
        simp only [Option.map_some] at h ⊢
        rw [ekind]
        exact h
/-- the private methods of StringBuilder's upper class, called on a StringBuilder -/
def slX : List MethodName := [yJ5_ensureCapacityInternal, yJ5_newCapacity, yJ5_inflate]
theorem slX_ok : ∀ y ∈ slX, y.cls ≠ "java/lang/invoke/MethodHandle" ∧ y.cls ≠ "java/lang/invoke/VarHandle" := by decide +kernel
def g_Sl (y : MethodName) (U : State) : Prop := (Cond.selects "java/lang/StringBuilder" y y).before #[] U = true ∧ ∃ r, U.methodNamed? y = some r
theorem g_Sl.moved {y : MethodName} (hx : y.cls ≠ "java/lang/invoke/MethodHandle" ∧ y.cls ≠ "java/lang/invoke/VarHandle") {u U : State} (hvm : u.vm.Alike U.vm) (h : g_Sl y u) : g_Sl y U := by
  obtain ⟨h1, r, h2⟩ := h
  have a := Cond.selects_setVm (args := #[]) (cls := "java/lang/StringBuilder") (y := y) hvm h2 hx
  have b := State.methodNamed?_setVm hvm y
  exact ⟨va_tabs rfl (rfl : (u.setVm U.vm).vm = U.vm) (a.trans h1), r, (show U.methodNamed? y = (u.setVm U.vm).methodNamed? y from rfl).trans (b.trans h2)⟩
/-- a static that is null or the cell v -/
def g_Zn (C n d : String) (v : Nat) (A : Nat → Prop) (U : State) (H : Heap) : Prop := va_Z C n d .null A U H ∨ va_Z C n d (.ref v) A U H
theorem g_Zn.moved {C n d : String} {v : Nat} {A : Nat → Prop} {u U : State} {H : Heap} (hvm : u.vm.Alike U.vm) (h : g_Zn C n d v A u H) : g_Zn C n d v A U H := h.elim (fun h => .inl (va_Z.moved hvm h)) (fun h => .inr (va_Z.moved hvm h))
theorem g_Zn.kept {C n d : String} {v : Nat} {A : Nat → Prop} {U : State} {H H1 : Heap} (h : g_Zn C n d v A U H) (hq : ∀ a : Nat, a < H.size → ¬ A a → H1[a]? = H[a]?) : g_Zn C n d v A U H1 := h.elim (fun h => .inl (h.kept hq)) (fun h => .inr (h.kept hq))
theorem g_Zn.narrow {C n d : String} {v : Nat} {A B : Nat → Prop} {U : State} {H : Heap} (h : g_Zn C n d v A U H) (hAB : ∀ q, B q → A q) : g_Zn C n d v B U H := h.elim (fun h => .inl (h.narrow hAB)) (fun h => .inr (h.narrow hAB))
/-- what was there before, and what the tables say beside the lists: interface words, constants (1000000 + j), texts (1000100 + i, their bytes 1000200 + i), statics -/
def XT (ad : Nat → Nat) (A : Nat → Prop) (U : State) (H : Heap) : Prop := (∀ w ∈ nwX, va_Nw w U) ∧ (∀ q ∈ fwX, va_Fw q.1 q.2.1 q.2.2 U) ∧ (va_AO "java/lang/Object" U ∧ va_AO "WeatherWages$Plots" U ∧ g_AA U ∧ ∀ y ∈ slX, g_Sl y U) ∧ (∀ j, j < 6 → va_O (asN.getD j "") (ad (1000000 + j)) A U H ∧ va_Z "WeatherWages$Asked" (asF.getD j "") "LWeatherWages$Asked;" (.ref (ad (1000000 + j))) A U H) ∧ (va_Z "java/lang/String" "COMPACT_STRINGS" "Z" (.int 1) A U H ∧ g_Zn "java/lang/Throwable" "UNASSIGNED_STACK" "[Ljava/lang/StackTraceElement;" (ad 1000301) A U H ∧ g_Zn "java/lang/Throwable" "SUPPRESSED_SENTINEL" "Ljava/util/List;" (ad 1000302) A U H) ∧ vk_S 22 stL stB (fun i => ad (1000100 + i)) (fun i => ad (1000200 + i)) A U H ∧ (∀ i, i < 22 → vk_R "WeatherWages$Reader" (stK.getD i 0) (stX.getD i "") (ad (1000100 + i)) U) ∧ va_Mi "[Ljava/lang/Object;" (ad 1000300) U ∧ va_Dc U
theorem XT.warm {ad : Nat → Nat} {A : Nat → Prop} {s U : State} {H : Heap} (hW : s.WarmedH U.vm) (h : XT ad A s H) : XT ad A U H := by
  obtain ⟨h1, h2, h3, h4, h5, h6, h7, h8⟩ := h
  exact ⟨fun w hw => nw_warm (List.all_eq_true.mp nwX_ok w hw) hW (h1 w hw), fun q hq => va_Fw.moved (fwX_ok q hq) hW.alike (h2 q hq), ⟨va_AO.moved hW.alike h3.1, va_AO.moved hW.alike h3.2.1, g_AA.moved hW.alike h3.2.2.1, fun y hy => (h3.2.2.2 y hy).moved (slX_ok y hy) hW.alike⟩, fun j hj => ⟨va_O.moved hW.alike (h4 j hj).1, va_Z.moved hW.alike (h4 j hj).2⟩, ⟨va_Z.moved hW.alike h5.1, g_Zn.moved hW.alike h5.2.1, g_Zn.moved hW.alike h5.2.2⟩, vk_S.moved hW.alike h6, fun i hi => vk_R.warm hW (h7 i hi), va_Mi.moved hW.alike h8.1, va_Dc.moved hW.alike h8.2⟩
theorem XT.same {ad : Nat → Nat} {A : Nat → Prop} {u U : State} {H : Heap} (hv : u.vm = U.vm) (h : XT ad A u H) : XT ad A U H := by
  obtain ⟨h1, h2, h3, h4, h5, h6, h7, h8⟩ := h
  have ha : u.vm.Alike U.vm := by rw [hv]; exact Vm.Alike.refl _
  exact ⟨fun w hw => va_Nw.same (nw_on (List.all_eq_true.mp nwX_ok w hw)) hv (h1 w hw), fun q hq => va_Fw.moved (fwX_ok q hq) ha (h2 q hq), ⟨va_AO.moved ha h3.1, va_AO.moved ha h3.2.1, g_AA.moved ha h3.2.2.1, fun y hy => (h3.2.2.2 y hy).moved (slX_ok y hy) ha⟩, fun j hj => ⟨va_O.moved ha (h4 j hj).1, va_Z.moved ha (h4 j hj).2⟩, ⟨va_Z.moved ha h5.1, g_Zn.moved ha h5.2.1, g_Zn.moved ha h5.2.2⟩, vk_S.moved ha h6, fun i hi => vk_R.same hv.symm (h7 i hi), va_Mi.moved ha h8.1, va_Dc.moved ha h8.2⟩
theorem XT.kept {ad : Nat → Nat} {A : Nat → Prop} {U : State} {H H1 : Heap} (h : XT ad A U H) (hq : ∀ a : Nat, a < H.size → ¬ A a → H1[a]? = H[a]?) : XT ad A U H1 := by
  obtain ⟨h1, h2, h3, h4, h5, h6, h7, h8⟩ := h
  exact ⟨h1, h2, h3, fun j hj => ⟨(h4 j hj).1.kept hq, (h4 j hj).2.kept hq⟩, ⟨h5.1.kept hq, h5.2.1.kept hq, h5.2.2.kept hq⟩, h6.kept hq, h7, h8⟩
theorem XT.narrow {ad : Nat → Nat} {A B : Nat → Prop} {U : State} {H : Heap} (h : XT ad A U H) (hAB : ∀ q, B q → A q) : XT ad B U H := by
  obtain ⟨h1, h2, h3, h4, h5, h6, h7, h8⟩ := h
  exact ⟨h1, h2, h3, fun j hj => ⟨(h4 j hj).1.narrow hAB, (h4 j hj).2.narrow hAB⟩, ⟨h5.1.narrow hAB, h5.2.1.narrow hAB, h5.2.2.narrow hAB⟩, h6.narrow hAB, h7, h8⟩
theorem XT.ext {ad ad' : Nat → Nat} {A : Nat → Prop} {U : State} {H : Heap} (h : XT ad A U H) (he : ∀ i, 1000000 ≤ i → ad' i = ad i) : XT ad' A U H := by
  obtain ⟨h1, h2, h3, h4, h5, h6, h7, h8⟩ := h
  refine ⟨h1, h2, h3, fun j hj => ?_, by rw [he _ (by omega), he _ (by omega)]; exact h5, ?_, fun i hi => ?_, by rw [he _ (by omega)]; exact h8.1, h8.2⟩
  · rw [he _ (by omega)]; exact h4 j hj
  · have e1 : (fun i => ad' (1000100 + i)) = fun i => ad (1000100 + i) := funext fun i => he _ (by omega)
    have e2 : (fun i => ad' (1000200 + i)) = fun i => ad (1000200 + i) := funext fun i => he _ (by omega)
    rw [e1, e2]; exact h6
  · rw [he _ (by omega)]; exact h7 i hi
abbrev HK : Type := Nat → Nat × Nat
abbrev Xc (cA : Nat → ClassId) (ad : Nat → Nat) (hk : HK) (gi : GI) (gr : GR) : Nat → va_E := g_cell fkX cA ad hk gi gr (fun _ _ => 0)
abbrev Xw (cA : Nat → ClassId) (ad : Nat → Nat) (hk : HK) (nx : Nat) (gi : GI) (gr : GR) : va_W := g_ws ad (Xc cA ad hk gi gr) nx
/-- the numbers fit: a kind below 100 is a cell that was made, 100 .. 999 one that was there before; a reference names such a one -/
def XW (hk : HK) (nx : Nat) (gr : GR) : Prop := (∀ i, (hk i).1 < 100 → i < nx) ∧ (∀ i, 100 ≤ (hk i).1 → (hk i).1 < 1000 → 1000000 ≤ i) ∧ (∀ i k j, i < nx → gr i k = some j → (hk j).1 < 1000) ∧ nx ≤ 1000000
def XC (ci : Nat) (Rc : String) (Tc : u_T) (tyc : Nat → FieldType) (N : Nat) : Prop := clX[ci]? = some (Rc, Tc, N) ∧ (∀ w ∈ u_ws Rc Tc N, w ∈ lw_all) ∧ (∀ k, k < N → parseFieldDescriptor (Tc k).2.2.1 = some (tyc k)) ∧ ∀ a, a < N → ∀ b, b < N → a ≠ b → (Tc a).2.1 ≠ (Tc b).2.1
def XA (ad : Nat → Nat) (nx sz : Nat) : Nat → Prop := fun q => (∃ i, i < nx ∧ q = ad i) ∨ sz ≤ q
def XB (D : va_G) (cA : Nat → ClassId) (ad : Nat → Nat) (hk : HK) (nx : Nat) (A : Nat → Prop) (s : State) (gi : GI) (gr : GR) (H : Heap) (locs : List Loc) : Prop := va_K D clX (g_tys cA) s ∧ va_P D clX (Xw cA ad hk nx gi gr) H ∧ ((g_D A ad nx ∧ ∀ q, s.heap.size ≤ q → A q) ∧ XW hk nx gr) ∧ va_S A s.heap H locs ∧ XT ad A s s.heap
def XPre (D : va_G) (cA : Nat → ClassId) (ad : Nat → Nat) (hk : HK) (nx : Nat) (gi : GI) (gr : GR) (sz : Nat) (U : State) : Prop := U.heap.size = sz ∧ va_K D clX (g_tys cA) U ∧ va_P D clX (Xw cA ad hk nx gi gr) U.heap ∧ (g_D (fun _ => True) ad nx ∧ XW hk nx gr) ∧ XT ad (XA ad nx sz) U U.heap
def XPost (D : va_G) (cA : Nat → ClassId) (ad : Nat → Nat) (hk : HK) (nx : Nat) (u : GI × GR) (t : State) : Prop := va_K D clX (g_tys cA) t ∧ va_P D clX (Xw cA ad hk nx u.1 u.2) t.heap ∧ XW hk nx u.2
theorem Xc_pi {cA : Nat → ClassId} {ad : Nat → Nat} {hk : HK} {gi : GI} {gr : GR} {i k : Nat} {x : Int32} (j : Nat) (h : j ≠ i) : Xc cA ad hk (g_pi gi i k x) gr j = Xc cA ad hk gi gr j := by
  have h1 : g_pi gi i k x j = gi j := by simp [g_pi, va_up, h]
  simp only [Xc, g_cell, g_fv, h1]
theorem Xc_pr {cA : Nat → ClassId} {ad : Nat → Nat} {hk : HK} {gi : GI} {gr : GR} {i k : Nat} {x : Option Nat} (j : Nat) (h : j ≠ i) : Xc cA ad hk gi (g_pr gr i k x) j = Xc cA ad hk gi gr j := by
  have h1 : g_pr gr i k x j = gr j := by simp [g_pr, va_up, h]
  simp only [Xc, g_cell, g_fv, h1]
theorem g_pr_at {gr : GR} {i k : Nat} {x : Option Nat} : g_pr gr i k x i = va_up (gr i) k x := by simp [g_pr, va_up]
def g_is (hk : HK) (p t : Nat) : Option Unit := if (hk p).1 = t then some () else none
def g_ok (hk : HK) (p : Nat) : Option Unit := if (hk p).1 < 1000 then some () else none
def g_ldr (gr : GR) (a n : Nat) (i : Int32) : Option Nat := if g_in i n = true then gr a i.toNatClampNeg else none
def g_ldo (gr : GR) (a n : Nat) (i : Int32) : Option (Option Nat) := if g_in i n = true then some (gr a i.toNatClampNeg) else none
def g_str (gr : GR) (a n : Nat) (i : Int32) (x : Option Nat) : Option GR := if g_in i n = true then some (g_pr gr a i.toNatClampNeg x) else none
/-- System.arraycopy -/
def g_cp0 (sp dp n : Int32) (n0 n1 : Nat) : Bool := !(decide (sp < 0)) && !(decide (dp < 0)) && !(decide (n < 0)) && decide (sp.toNatClampNeg + n.toNatClampNeg ≤ n0) && decide (dp.toNatClampNeg + n.toNatClampNeg ≤ n1)
def g_cpi (hk : HK) (gi : GI) (a : Nat) (sp : Int32) (b : Nat) (dp n : Int32) : Option GI := if g_cp0 sp dp n (hk a).2 (hk b).2 = true then some (va_up gi b (va_cpy (gi a) (gi b) sp.toNatClampNeg dp.toNatClampNeg n.toNatClampNeg)) else none
def g_cpr (hk : HK) (gr : GR) (a : Nat) (sp : Int32) (b : Nat) (dp n : Int32) : Option GR := if g_cp0 sp dp n (hk a).2 (hk b).2 = true then some (va_up gr b (va_cpy (gr a) (gr b) sp.toNatClampNeg dp.toNatClampNeg n.toNatClampNeg)) else none
theorem g_cp0_of {sp dp n : Int32} {n0 n1 : Nat} (h : g_cp0 sp dp n n0 n1 = true) : ¬ sp < 0 ∧ ¬ dp < 0 ∧ ¬ n < 0 ∧ sp.toNatClampNeg + n.toNatClampNeg ≤ n0 ∧ dp.toNatClampNeg + n.toNatClampNeg ≤ n1 := by
  simp only [g_cp0, Bool.and_eq_true, Bool.not_eq_true', decide_eq_false_iff_not, decide_eq_true_eq] at h
  exact ⟨h.1.1.1.1, h.1.1.1.2, h.1.1.2, h.1.2, h.2⟩
section XX
variable {p : Program} {l : Launch} {e : Env} {R : Room} {s : State} {m : MethodId} {args : Array Value} {below : List Frame} {meth : Method} {c : Code} {H : Heap} {locs : List Loc} {cells slots : Nat} {Q : State → Prop}
variable {pc : Nat} {ls : Array Slot} {rest : List Value} {cc : ByteArray} {nL : Nat} {α : Type} {r : α} {D : va_G} {cA : Nat → ClassId} {ad : Nat → Nat} {hk : HK} {nx : Nat} {A : Nat → Prop} {gi : GI} {gr : GR} {own : String}
theorem xx_is {b t : Nat} {f : Unit → Option α} {P : Prop} (h : (g_is hk b t).bind f = some r) (kk : (hk b).1 = t → f () = some r → P) : P := by
  obtain ⟨v, h1, h2⟩ := g_ob h
  unfold g_is at h1
  by_cases q : (hk b).1 = t
  · exact kk q h2
  · rw [if_neg q] at h1; cases h1
theorem xx_ok {b : Nat} {f : Unit → Option α} {P : Prop} (h : (g_ok hk b).bind f = some r) (kk : (hk b).1 < 1000 → f () = some r → P) : P := by
  obtain ⟨v, h1, h2⟩ := g_ob h
  unfold g_ok at h1
  by_cases q : (hk b).1 < 1000
  · exact kk q h2
  · rw [if_neg q] at h1; cases h1
theorem Xw_o {cA : Nat → ClassId} {ad : Nat → Nat} {hk : HK} {nx : Nat} {gi : GI} {gr : GR} {b ci : Nat} (hb : b < nx) (hp : (hk b).1 = 10 + ci) : (Xw cA ad hk nx gi gr)[b]? = some (ad b, .inr (ci, (fkX ci).mapIdx (fun k z => g_fv ad gi gr (fun _ _ => 0) b k z))) := by
  rw [Xw, g_ws_get hb]
  simp only [Xc, g_cell, hp]
  rw [if_pos (by omega)]
  simp
theorem xb_lt (B : XB D cA ad hk nx A s gi gr H locs) {b t : Nat} (hp : (hk b).1 = t) (ht : t < 100) : b < nx := B.2.2.1.2.1 b (by omega)
theorem xx_gi {idx b ci k N : Nat} {Rc : String} {Tc : u_T} {tyc : Nat → FieldType} {ref : String} (C : CallFix p m c cc nL s args lw_all own) (B : XB D cA ad hk nx A s gi gr H locs) (X : XC ci Rc Tc tyc N) (hp : (hk b).1 = 10 + ci) (hci : 10 + ci < 100) (hkN : k < N) (hz : (fkX ci)[k]? = some 0) (hq : Cond.fieldLink own idx ref (Tc k).2.1 (Tc k).2.2.1 ∈ lw_all) (hs : ∀ x, s.fieldFound? (Tc k).1 (Tc k).2.1 (Tc k).2.2.1 = some x → s.fieldFound? ref (Tc k).2.1 (Tc k).2.2.1 = some x) (hdg : decode cc pc = .ok (.getfield idx, 3)) (kk : W p l e R s m args below meth c H locs cells slots Q (F0 m (pc + 3) ls (.int (gi b k) :: rest))) : W p l e R s m args below meth c H locs cells slots Q (F0 m pc ls (.ref (ad b) :: rest)) :=
  va_get (D := D) (ci := ci) (v := .int (gi b k)) (C := Rc) (T := Tc) (N := N) C.1 C.2.1 C.2.2.2.2 X.2.1 C.2.2.2.1 B.1 B.2.1 b (Xw_o (xb_lt B hp hci) hp) X.1 k hkN (C.2.2.2.2 _ hq) hs (by rw [List.getElem?_mapIdx, hz]; rfl) hdg kk
theorem xx_giN {idx b ci k N : Nat} {Rc host : String} {Tc : u_T} {tyc : Nat → FieldType} {ref : String} (C : CallFix p m c cc nL s args lw_all own) (B : XB D cA ad hk nx A s gi gr H locs) (X : XC ci Rc Tc tyc N) (hp : (hk b).1 = 10 + ci) (hci : 10 + ci < 100) (hkN : k < N) (hz : (fkX ci)[k]? = some 0) (hq : Cond.fieldLinkNest own idx ref (Tc k).2.1 (Tc k).2.2.1 host ∈ nwX) (hs : ∀ x, s.fieldFound? (Tc k).1 (Tc k).2.1 (Tc k).2.2.1 = some x → s.fieldFound? ref (Tc k).2.1 (Tc k).2.2.1 = some x) (hdg : decode cc pc = .ok (.getfield idx, 3)) (kk : W p l e R s m args below meth c H locs cells slots Q (F0 m (pc + 3) ls (.int (gi b k) :: rest))) : W p l e R s m args below meth c H locs cells slots Q (F0 m pc ls (.ref (ad b) :: rest)) :=
  va_getN (D := D) (ci := ci) (v := .int (gi b k)) (C := Rc) (T := Tc) (N := N) C.1 C.2.1 C.2.2.2.2 X.2.1 C.2.2.2.1 B.1 B.2.1 b (Xw_o (xb_lt B hp hci) hp) X.1 k hkN (va_Nw.use rfl (B.2.2.2.2.1 _ hq)) hs (by rw [List.getElem?_mapIdx, hz]; rfl) hdg kk
theorem xx_gr {idx b ci k N : Nat} {Rc : String} {Tc : u_T} {tyc : Nat → FieldType} {ref : String} {f : Nat → Option α} (C : CallFix p m c cc nL s args lw_all own) (B : XB D cA ad hk nx A s gi gr H locs) (X : XC ci Rc Tc tyc N) (hp : (hk b).1 = 10 + ci) (hci : 10 + ci < 100) (hkN : k < N) (hz : (fkX ci)[k]? = some 1) (hq : Cond.fieldLink own idx ref (Tc k).2.1 (Tc k).2.2.1 ∈ lw_all) (hs : ∀ x, s.fieldFound? (Tc k).1 (Tc k).2.1 (Tc k).2.2.1 = some x → s.fieldFound? ref (Tc k).2.1 (Tc k).2.2.1 = some x) (h : (gr b k).bind f = some r) (hdg : decode cc pc = .ok (.getfield idx, 3)) (kk : ∀ v, (hk v).1 < 1000 → f v = some r → W p l e R s m args below meth c H locs cells slots Q (F0 m (pc + 3) ls (.ref (ad v) :: rest))) : W p l e R s m args below meth c H locs cells slots Q (F0 m pc ls (.ref (ad b) :: rest)) := by
  obtain ⟨v, h1, h2⟩ := g_ob h
  have hb := xb_lt B hp hci
  exact va_get (D := D) (ci := ci) (v := .ref (ad v)) (C := Rc) (T := Tc) (N := N) C.1 C.2.1 C.2.2.2.2 X.2.1 C.2.2.2.1 B.1 B.2.1 b (Xw_o hb hp) X.1 k hkN (C.2.2.2.2 _ hq) hs (by rw [List.getElem?_mapIdx, hz]; simp [g_fv, h1, va_rf]) hdg (kk v (B.2.2.1.2.2.2.1 b k v hb h1) h2)
theorem xx_grN {idx b ci k N : Nat} {Rc host : String} {Tc : u_T} {tyc : Nat → FieldType} {ref : String} {f : Nat → Option α} (C : CallFix p m c cc nL s args lw_all own) (B : XB D cA ad hk nx A s gi gr H locs) (X : XC ci Rc Tc tyc N) (hp : (hk b).1 = 10 + ci) (hci : 10 + ci < 100) (hkN : k < N) (hz : (fkX ci)[k]? = some 1) (hq : Cond.fieldLinkNest own idx ref (Tc k).2.1 (Tc k).2.2.1 host ∈ nwX) (hs : ∀ x, s.fieldFound? (Tc k).1 (Tc k).2.1 (Tc k).2.2.1 = some x → s.fieldFound? ref (Tc k).2.1 (Tc k).2.2.1 = some x) (h : (gr b k).bind f = some r) (hdg : decode cc pc = .ok (.getfield idx, 3)) (kk : ∀ v, (hk v).1 < 1000 → f v = some r → W p l e R s m args below meth c H locs cells slots Q (F0 m (pc + 3) ls (.ref (ad v) :: rest))) : W p l e R s m args below meth c H locs cells slots Q (F0 m pc ls (.ref (ad b) :: rest)) := by
  obtain ⟨v, h1, h2⟩ := g_ob h
  have hb := xb_lt B hp hci
  exact va_getN (D := D) (ci := ci) (v := .ref (ad v)) (C := Rc) (T := Tc) (N := N) C.1 C.2.1 C.2.2.2.2 X.2.1 C.2.2.2.1 B.1 B.2.1 b (Xw_o hb hp) X.1 k hkN (va_Nw.use rfl (B.2.2.2.2.1 _ hq)) hs (by rw [List.getElem?_mapIdx, hz]; simp [g_fv, h1, va_rf]) hdg (kk v (B.2.2.1.2.2.2.1 b k v hb h1) h2)
/-- a reference that may be null -/
theorem xx_go {idx b ci k N : Nat} {Rc : String} {Tc : u_T} {tyc : Nat → FieldType} {ref : String} (C : CallFix p m c cc nL s args lw_all own) (B : XB D cA ad hk nx A s gi gr H locs) (X : XC ci Rc Tc tyc N) (hp : (hk b).1 = 10 + ci) (hci : 10 + ci < 100) (hkN : k < N) (hz : (fkX ci)[k]? = some 1) (hq : Cond.fieldLink own idx ref (Tc k).2.1 (Tc k).2.2.1 ∈ lw_all) (hs : ∀ x, s.fieldFound? (Tc k).1 (Tc k).2.1 (Tc k).2.2.1 = some x → s.fieldFound? ref (Tc k).2.1 (Tc k).2.2.1 = some x) (hdg : decode cc pc = .ok (.getfield idx, 3)) (kk : W p l e R s m args below meth c H locs cells slots Q (F0 m (pc + 3) ls (va_rf ((gr b k).map ad) :: rest))) : W p l e R s m args below meth c H locs cells slots Q (F0 m pc ls (.ref (ad b) :: rest)) :=
  va_get (D := D) (ci := ci) (v := va_rf ((gr b k).map ad)) (C := Rc) (T := Tc) (N := N) C.1 C.2.1 C.2.2.2.2 X.2.1 C.2.2.2.1 B.1 B.2.1 b (Xw_o (xb_lt B hp hci) hp) X.1 k hkN (C.2.2.2.2 _ hq) hs (by rw [List.getElem?_mapIdx, hz]; rfl) hdg kk
theorem XW.pr {hk : HK} {nx : Nat} {gr : GR} {a k v : Nat} (h : XW hk nx gr) (hv : (hk v).1 < 1000) : XW hk nx (g_pr gr a k (some v)) := by
  refine ⟨h.1, h.2.1, fun i k' j hi he => ?_, h.2.2.2⟩
  by_cases q : i = a
  · subst q
    rw [g_pr_at] at he
    by_cases q2 : k' = k
    · subst q2
      simp [va_up] at he
      subst he
      exact hv
    · simp [va_up, q2] at he
      exact h.2.2.1 i k' j hi he
  · simp [g_pr, va_up, q] at he
    exact h.2.2.1 i k' j hi he
theorem XW.pn {hk : HK} {nx : Nat} {gr : GR} {a k : Nat} (h : XW hk nx gr) : XW hk nx (g_pr gr a k none) := by
  refine ⟨h.1, h.2.1, fun i k' j hi he => ?_, h.2.2.2⟩
  by_cases q : i = a
  · subst q
    rw [g_pr_at] at he
    by_cases q2 : k' = k
    · subst q2
      simp [va_up] at he
    · simp [va_up, q2] at he
      exact h.2.2.1 i k' j hi he
  · simp [g_pr, va_up, q] at he
    exact h.2.2.1 i k' j hi he
theorem xx_pi {idx b ci k N : Nat} {Rc : String} {Tc : u_T} {tyc : Nat → FieldType} {ref : String} {x : Int32} {f : GI → Option α} (C : CallFix p m c cc nL s args lw_all own) (B : XB D cA ad hk nx A s gi gr H locs) (X : XC ci Rc Tc tyc N) (hp : (hk b).1 = 10 + ci) (hci : 10 + ci < 100) (hkN : k < N) (hz : (fkX ci)[k]? = some 0) (hq : Cond.fieldLink own idx ref (Tc k).2.1 (Tc k).2.2.1 ∈ lw_all) (hs : ∀ x, s.fieldFound? (Tc k).1 (Tc k).2.1 (Tc k).2.2.1 = some x → s.fieldFound? ref (Tc k).2.1 (Tc k).2.2.1 = some x) (hfin : (Tc k).2.2.2 = false) (hn : narrow (tyc k) (.int x) = .int x) (hf : fits (tyc k) (.int x) = true) (h : (some (g_pi gi b k x)).bind f = some r) (hdg : decode cc pc = .ok (.putfield idx, 3)) (kk : ∀ g', f g' = some r → ∀ (H' : Heap) (locs' : List Loc), XB D cA ad hk nx A s g' gr H' locs' → W p l e R s m args below meth c H' locs' cells slots Q (F0 m (pc + 3) ls rest)) : W p l e R s m args below meth c H locs cells slots Q (F0 m pc ls (.int x :: .ref (ad b) :: rest)) := by
  have hb := xb_lt B hp hci
  refine va_put (D := D) (ci := ci) (v := .int x) (ty := tyc k) (C := Rc) (T := Tc) (N := N) C.1 C.2.1 C.2.2.2.2 X.2.1 tyc X.2.2.1 X.2.2.2 C.2.2.2.1 B.1 B.2.1 B.2.2.1.1.1.va B.2.2.2.1 b (Xw_o hb hp) X.1 k hkN (C.2.2.2.2 _ hq) hs hfin (X.2.2.1 k hkN) hn hf (by rw [List.length_mapIdx]; exact (List.getElem?_eq_some_iff.mp hz).1) hdg (fun H' locs' hP hD hS => ?_)
  refine kk _ h H' locs' ⟨B.1, ?_, B.2.2.1, hS, B.2.2.2.2⟩
  rw [g_ws_set (f' := Xc cA ad hk (g_pi gi b k x) gr) (fun j hj => Xc_pi j hj)] at hP
  · exact hP
  · simp only [Xc, g_cell, hp]
    rw [if_pos (by omega), g_fs_set hz (f' := fun k_1 z => g_fv ad (g_pi gi b k x) gr (fun _ _ => 0) b k_1 z)]
    · simp
    · intro j w hj
      simp only [g_fv, g_pi_at, upd, if_neg hj]
    · simp [g_fv, g_pi_at, upd]
theorem xx_pr {idx b ci k N v : Nat} {Rc : String} {Tc : u_T} {tyc : Nat → FieldType} {ref : String} {f : GR → Option α} (C : CallFix p m c cc nL s args lw_all own) (B : XB D cA ad hk nx A s gi gr H locs) (X : XC ci Rc Tc tyc N) (hp : (hk b).1 = 10 + ci) (hci : 10 + ci < 100) (hv : (hk v).1 < 1000) (hkN : k < N) (hz : (fkX ci)[k]? = some 1) (hq : Cond.fieldLink own idx ref (Tc k).2.1 (Tc k).2.2.1 ∈ lw_all) (hs : ∀ x, s.fieldFound? (Tc k).1 (Tc k).2.1 (Tc k).2.2.1 = some x → s.fieldFound? ref (Tc k).2.1 (Tc k).2.2.1 = some x) (hfin : (Tc k).2.2.2 = false) (hn : narrow (tyc k) (.ref (ad v)) = .ref (ad v)) (hf : fits (tyc k) (.ref (ad v)) = true) (h : (some (g_pr gr b k (some v))).bind f = some r) (hdg : decode cc pc = .ok (.putfield idx, 3)) (kk : ∀ g', f g' = some r → ∀ (H' : Heap) (locs' : List Loc), XB D cA ad hk nx A s gi g' H' locs' → W p l e R s m args below meth c H' locs' cells slots Q (F0 m (pc + 3) ls rest)) : W p l e R s m args below meth c H locs cells slots Q (F0 m pc ls (.ref (ad v) :: .ref (ad b) :: rest)) := by
  have hb := xb_lt B hp hci
  refine va_put (D := D) (ci := ci) (v := .ref (ad v)) (ty := tyc k) (C := Rc) (T := Tc) (N := N) C.1 C.2.1 C.2.2.2.2 X.2.1 tyc X.2.2.1 X.2.2.2 C.2.2.2.1 B.1 B.2.1 B.2.2.1.1.1.va B.2.2.2.1 b (Xw_o hb hp) X.1 k hkN (C.2.2.2.2 _ hq) hs hfin (X.2.2.1 k hkN) hn hf (by rw [List.length_mapIdx]; exact (List.getElem?_eq_some_iff.mp hz).1) hdg (fun H' locs' hP hD hS => ?_)
  refine kk _ h H' locs' ⟨B.1, ?_, ⟨B.2.2.1.1, B.2.2.1.2.pr hv⟩, hS, B.2.2.2.2⟩
  rw [g_ws_set (f' := Xc cA ad hk gi (g_pr gr b k (some v))) (fun j hj => Xc_pr j hj)] at hP
  · exact hP
  · simp only [Xc, g_cell, hp]
    rw [if_pos (by omega), g_fs_set hz (f' := fun k_1 z => g_fv ad gi (g_pr gr b k (some v)) (fun _ _ => 0) b k_1 z)]
    · simp
    · intro j w hj
      simp only [g_fv, g_pr_at, va_up, if_neg hj]
    · simp [g_fv, g_pr_at, va_up, va_rf]
theorem Xw_i {cA : Nat → ClassId} {ad : Nat → Nat} {hk : HK} {nx : Nat} {gi : GI} {gr : GR} {a t : Nat} (ha : a < nx) (hp : (hk a).1 = t) (ht : t < 3) : (Xw cA ad hk nx gi gr)[a]? = some (ad a, .inl (cA t, (hk a).2, .inl (gi a))) := by
  rw [Xw, g_ws_get ha]
  simp only [Xc, g_cell, hp]
  rw [if_neg (by omega), if_pos ht]
theorem Xw_r {cA : Nat → ClassId} {ad : Nat → Nat} {hk : HK} {nx : Nat} {gi : GI} {gr : GR} {a t : Nat} (ha : a < nx) (hp : (hk a).1 = t) (ht : 4 ≤ t ∧ t < 10) : (Xw cA ad hk nx gi gr)[a]? = some (ad a, .inl (cA t, (hk a).2, .inr (.inr (.inr (.inr (fun j => (gr a j).map ad)))))) := by
  rw [Xw, g_ws_get ha]
  simp only [Xc, g_cell, hp]
  rw [if_neg (by omega), if_neg (by omega), if_neg (by omega)]
theorem Xw_pi {cA : Nat → ClassId} {ad : Nat → Nat} {hk : HK} {nx : Nat} {gi : GI} {gr : GR} {a t : Nat} {f : Nat → Int32} {gi' : GI} (hp : (hk a).1 = t) (ht : t < 3) (h1 : gi' a = f) (h2 : ∀ j, j ≠ a → gi' j = gi j) : (Xw cA ad hk nx gi gr).set a (ad a, .inl (cA t, (hk a).2, .inl f)) = Xw cA ad hk nx gi' gr := by
  refine g_ws_set (fun j hj => ?_) ?_
  · simp only [Xc, g_cell, g_fv, h2 j hj]
  · simp only [Xc, g_cell, hp, h1]
    rw [if_neg (by omega), if_pos ht]
theorem Xw_pr {cA : Nat → ClassId} {ad : Nat → Nat} {hk : HK} {nx : Nat} {gi : GI} {gr : GR} {a t : Nat} {f : Nat → Option Nat} {gr' : GR} (hp : (hk a).1 = t) (ht : 4 ≤ t ∧ t < 10) (h1 : ∀ j, (gr' a j).map ad = f j) (h2 : ∀ j, j ≠ a → gr' j = gr j) : (Xw cA ad hk nx gi gr).set a (ad a, .inl (cA t, (hk a).2, .inr (.inr (.inr (.inr f))))) = Xw cA ad hk nx gi gr' := by
  refine g_ws_set (fun j hj => ?_) ?_
  · simp only [Xc, g_cell, g_fv, h2 j hj]
  · have h3 : (fun j => (gr' a j).map ad) = f := funext h1
    simp only [Xc, g_cell, hp, h3]
    rw [if_neg (by omega), if_neg (by omega), if_neg (by omega)]
theorem xx_iald {a : Nat} {i : Int32} {f : Int32 → Option α} (C : CallFix p m c cc nL s args lw_all own) (B : XB D cA ad hk nx A s gi gr H locs) (hp : (hk a).1 = 0) (h : (g_ld gi a (hk a).2 i).bind f = some r) (hdg : decode cc pc = .ok (.iaload, 1)) (kk : ∀ v, f v = some r → W p l e R s m args below meth c H locs cells slots Q (F0 m (pc + 1) ls (.int v :: rest))) : W p l e R s m args below meth c H locs cells slots Q (F0 m pc ls (.int i :: .ref (ad a) :: rest)) := by
  obtain ⟨v, h1, h2⟩ := g_ob h
  obtain ⟨h3, rfl⟩ := g_ld_in h1
  exact va_iald C.1 C.2.1 B.1 B.2.1 a 0 (Xw_i (xb_lt B hp (by decide)) hp (by decide)) rfl h3 hdg (kk _ h2)
theorem xx_bald {a : Nat} {i : Int32} {f : Int32 → Option α} (C : CallFix p m c cc nL s args lw_all own) (B : XB D cA ad hk nx A s gi gr H locs) (hp : (hk a).1 = 1) (h : (g_ld gi a (hk a).2 i).bind f = some r) (hdg : decode cc pc = .ok (.baload, 1)) (kk : ∀ v, f v = some r → W p l e R s m args below meth c H locs cells slots Q (F0 m (pc + 1) ls (.int v :: rest))) : W p l e R s m args below meth c H locs cells slots Q (F0 m pc ls (.int i :: .ref (ad a) :: rest)) := by
  obtain ⟨v, h1, h2⟩ := g_ob h
  obtain ⟨h3, rfl⟩ := g_ld_in h1
  exact va_bald C.1 C.2.1 B.1 B.2.1 a 1 (Xw_i (xb_lt B hp (by decide)) hp (by decide)) rfl h3 hdg (kk _ h2)
theorem xx_zald {a : Nat} {i : Int32} {f : Int32 → Option α} (C : CallFix p m c cc nL s args lw_all own) (B : XB D cA ad hk nx A s gi gr H locs) (hp : (hk a).1 = 2) (h : (g_ld gi a (hk a).2 i).bind f = some r) (hdg : decode cc pc = .ok (.baload, 1)) (kk : ∀ v, f v = some r → W p l e R s m args below meth c H locs cells slots Q (F0 m (pc + 1) ls (.int v :: rest))) : W p l e R s m args below meth c H locs cells slots Q (F0 m pc ls (.int i :: .ref (ad a) :: rest)) := by
  obtain ⟨v, h1, h2⟩ := g_ob h
  obtain ⟨h3, rfl⟩ := g_ld_in h1
  exact va_zald C.1 C.2.1 B.1 B.2.1 a 2 (Xw_i (xb_lt B hp (by decide)) hp (by decide)) rfl h3 hdg (kk _ h2)
theorem g_pi_ne {gi : GI} {a k : Nat} {x : Int32} (j : Nat) (h : j ≠ a) : g_pi gi a k x j = gi j := by simp [g_pi, va_up, h]
theorem g_pr_ne {gr : GR} {a k : Nat} {x : Option Nat} (j : Nat) (h : j ≠ a) : g_pr gr a k x j = gr j := by simp [g_pr, va_up, h]
theorem xx_iast {a : Nat} {i x : Int32} {f : GI → Option α} (C : CallFix p m c cc nL s args lw_all own) (B : XB D cA ad hk nx A s gi gr H locs) (hp : (hk a).1 = 0) (h : (g_st gi a (hk a).2 i x).bind f = some r) (hdg : decode cc pc = .ok (.iastore, 1)) (kk : ∀ g', f g' = some r → ∀ (H' : Heap) (locs' : List Loc), XB D cA ad hk nx A s g' gr H' locs' → W p l e R s m args below meth c H' locs' cells slots Q (F0 m (pc + 1) ls rest)) : W p l e R s m args below meth c H locs cells slots Q (F0 m pc ls (.int x :: .int i :: .ref (ad a) :: rest)) := by
  obtain ⟨g', h1, h2⟩ := g_ob h
  obtain ⟨h3, rfl⟩ := g_st_in h1
  exact va_iast C.1 C.2.1 B.1 B.2.1 B.2.2.1.1.1.va B.2.2.2.1 a 0 (Xw_i (xb_lt B hp (by decide)) hp (by decide)) rfl h3 hdg (fun H' locs' hP _ hS => kk _ h2 H' locs' ⟨B.1, by rw [Xw_pi hp (by decide) g_pi_at g_pi_ne] at hP; exact hP, B.2.2.1, hS, B.2.2.2.2⟩)
theorem xx_bast {a : Nat} {i x : Int32} {f : GI → Option α} (C : CallFix p m c cc nL s args lw_all own) (B : XB D cA ad hk nx A s gi gr H locs) (hp : (hk a).1 = 1) (h : (g_st gi a (hk a).2 i (vp_nar .byte x)).bind f = some r) (hdg : decode cc pc = .ok (.bastore, 1)) (kk : ∀ g', f g' = some r → ∀ (H' : Heap) (locs' : List Loc), XB D cA ad hk nx A s g' gr H' locs' → W p l e R s m args below meth c H' locs' cells slots Q (F0 m (pc + 1) ls rest)) : W p l e R s m args below meth c H locs cells slots Q (F0 m pc ls (.int x :: .int i :: .ref (ad a) :: rest)) := by
  obtain ⟨g', h1, h2⟩ := g_ob h
  obtain ⟨h3, rfl⟩ := g_st_in h1
  exact va_bast C.1 C.2.1 B.1 B.2.1 B.2.2.1.1.1.va B.2.2.2.1 a 1 (Xw_i (xb_lt B hp (by decide)) hp (by decide)) rfl h3 hdg (fun H' locs' hP _ hS => kk _ h2 H' locs' ⟨B.1, by rw [Xw_pi hp (by decide) g_pi_at g_pi_ne] at hP; exact hP, B.2.2.1, hS, B.2.2.2.2⟩)
theorem xx_zast {a : Nat} {i x : Int32} {f : GI → Option α} (C : CallFix p m c cc nL s args lw_all own) (B : XB D cA ad hk nx A s gi gr H locs) (hp : (hk a).1 = 2) (h : (g_st gi a (hk a).2 i (vp_nar .boolean x)).bind f = some r) (hdg : decode cc pc = .ok (.bastore, 1)) (kk : ∀ g', f g' = some r → ∀ (H' : Heap) (locs' : List Loc), XB D cA ad hk nx A s g' gr H' locs' → W p l e R s m args below meth c H' locs' cells slots Q (F0 m (pc + 1) ls rest)) : W p l e R s m args below meth c H locs cells slots Q (F0 m pc ls (.int x :: .int i :: .ref (ad a) :: rest)) := by
  obtain ⟨g', h1, h2⟩ := g_ob h
  obtain ⟨h3, rfl⟩ := g_st_in h1
  exact va_zast C.1 C.2.1 B.1 B.2.1 B.2.2.1.1.1.va B.2.2.2.1 a 2 (Xw_i (xb_lt B hp (by decide)) hp (by decide)) rfl h3 hdg (fun H' locs' hP _ hS => kk _ h2 H' locs' ⟨B.1, by rw [Xw_pi hp (by decide) g_pi_at g_pi_ne] at hP; exact hP, B.2.2.1, hS, B.2.2.2.2⟩)
theorem g_ldr_in {gr : GR} {a n : Nat} {i : Int32} {v : Nat} (h : g_ldr gr a n i = some v) : vp_in i n ∧ gr a i.toNatClampNeg = some v := by
  unfold g_ldr at h
  by_cases q : g_in i n = true
  · rw [if_pos q] at h; exact ⟨g_in_vp q, h⟩
  · rw [if_neg q] at h; cases h
theorem g_str_in {gr gr' : GR} {a n : Nat} {i : Int32} {x : Option Nat} (h : g_str gr a n i x = some gr') : vp_in i n ∧ gr' = g_pr gr a i.toNatClampNeg x := by
  unfold g_str at h
  by_cases q : g_in i n = true
  · rw [if_pos q] at h; cases h; exact ⟨g_in_vp q, rfl⟩
  · rw [if_neg q] at h; cases h
theorem xx_aald {a t : Nat} {E : String} {i : Int32} {f : Nat → Option α} (C : CallFix p m c cc nL s args lw_all own) (B : XB D cA ad hk nx A s gi gr H locs) (hp : (hk a).1 = t) (ht : 4 ≤ t ∧ t < 10) (hty : (g_tys cA)[t]? = some (cA t, .object E)) (h : (g_ldr gr a (hk a).2 i).bind f = some r) (hdg : decode cc pc = .ok (.aaload, 1)) (kk : ∀ v, (hk v).1 < 1000 → f v = some r → W p l e R s m args below meth c H locs cells slots Q (F0 m (pc + 1) ls (.ref (ad v) :: rest))) : W p l e R s m args below meth c H locs cells slots Q (F0 m pc ls (.int i :: .ref (ad a) :: rest)) := by
  obtain ⟨v, h1, h2⟩ := g_ob h
  obtain ⟨h3, h4⟩ := g_ldr_in h1
  have ha := xb_lt B hp (by omega)
  have kk := kk v (B.2.2.1.2.2.2.1 a _ v ha h4) h2
  refine va_aldq C.1 C.2.1 B.1 B.2.1 a t (Xw_r ha hp ht) hty h3 hdg ?_
  simp only [h4, Option.map_some, va_rf]
  exact kk
theorem xx_alen {a t : Nat} (C : CallFix p m c cc nL s args lw_all own) (B : XB D cA ad hk nx A s gi gr H locs) (hp : (hk a).1 = t) (ht : t < 7) (hdg : decode cc pc = .ok (.arraylength, 1)) (kk : W p l e R s m args below meth c H locs cells slots Q (F0 m (pc + 1) ls (.int (Int32.ofNat (hk a).2) :: rest))) : W p l e R s m args below meth c H locs cells slots Q (F0 m pc ls (.ref (ad a) :: rest)) := by
  have ha := xb_lt B hp (by omega)
  by_cases q : t < 3
  · exact va_alen C.1 C.2.1 B.1 B.2.1 a t (Xw_i ha hp q) (ty := (((g_tys cA)[t]?).getD (cA 0, .int)).2) (by match t, ht with | 0, _ => rfl | 1, _ => rfl | 2, _ => rfl | 3, _ => rfl | 4, _ => rfl | 5, _ => rfl | 6, _ => rfl) rfl hdg kk
  · by_cases q3 : t = 3
    · subst q3
      have hw : (Xw cA ad hk nx gi gr)[a]? = some (ad a, .inl (cA 3, (hk a).2, .inr (.inl (fun _ => 0)))) := by
        rw [Xw, g_ws_get ha]
        simp only [Xc, g_cell, hp]
        rfl
      exact va_alen C.1 C.2.1 B.1 B.2.1 a 3 hw (ty := .long) rfl rfl hdg kk
    · exact va_alen C.1 C.2.1 B.1 B.2.1 a t (Xw_r ha hp (by omega)) (ty := (((g_tys cA)[t]?).getD (cA 0, .int)).2) (by match t, ht with | 0, _ => rfl | 1, _ => rfl | 2, _ => rfl | 3, _ => rfl | 4, _ => rfl | 5, _ => rfl | 6, _ => rfl) rfl hdg kk
theorem xx_recv (B : XB D cA ad hk nx A s gi gr H locs) {b ci N : Nat} {Rc : String} {Tc : u_T} {tyc : Nat → FieldType} (X : XC ci Rc Tc tyc N) (hp : (hk b).1 = 10 + ci) (hci : 10 + ci < 100) : ∃ cell : Cell, H[ad b]? = some cell ∧ cell.vm.isStatics = false ∧ s.vm.findClass Rc = some cell.cls := va_recv B.1 B.2.1 (q := (Rc, Tc, N)) X.1 (Xw_o (xb_lt B hp hci) hp)
/-- a cast to the cell's own class -/
theorem xx_cast {idx b ci N : Nat} {Rc : String} {Tc : u_T} {tyc : Nat → FieldType} (C : CallFix p m c cc nL s args lw_all own) (B : XB D cA ad hk nx A s gi gr H locs) (X : XC ci Rc Tc tyc N) (hp : (hk b).1 = 10 + ci) (hci : 10 + ci < 100) (hq : Cond.classLink own idx Rc ∈ lw_all) (hdg : decode cc pc = .ok (.checkcast idx, 3)) (kk : W p l e R s m args below meth c H locs cells slots Q (F0 m (pc + 3) ls (.ref (ad b) :: rest))) : W p l e R s m args below meth c H locs cells slots Q (F0 m pc ls (.ref (ad b) :: rest)) :=
  va_castS C.1 C.2.1 C.2.2.2.1 (C.2.2.2.2 _ hq) (B.1.1 ci _ X.1).2 (xx_recv B X hp hci) hdg kk
end XX
theorem xc_0 : XC 0 RX0 TX0 tyX0 30 := ⟨rfl, in_X0, tyX0_ok, nmX0⟩
theorem xc_1 : XC 1 RX1 TX1 tyX1 10 := ⟨rfl, in_X1, tyX1_ok, nmX1⟩
theorem xc_2 : XC 2 RX2 TX2 tyX2 6 := ⟨rfl, in_X2, tyX2_ok, nmX2⟩
theorem xc_3 : XC 3 RX3 TX3 tyX3 6 := ⟨rfl, in_X3, tyX3_ok, nmX3⟩
theorem xc_4 : XC 4 RX5 TX5 tyX5 11 := ⟨rfl, in_X5, tyX5_ok, nmX5⟩
theorem xc_5 : XC 5 RX6 TX6 tyX6 8 := ⟨rfl, in_X6, tyX6_ok, nmX6⟩
theorem xc_6 : XC 6 RX7 TX7 tyX7 9 := ⟨rfl, in_X7, tyX7_ok, nmX7⟩
theorem xc_7 : XC 7 RX8 TX8 tyX8 4 := ⟨rfl, in_X8, tyX8_ok, nmX8⟩
theorem xc_8 : XC 8 RX9 TX9 tyX9 1 := ⟨rfl, in_X9, tyX9_ok, nmX9⟩
theorem xc_9 : XC 9 RX10 TX10 tyX10 1 := ⟨rfl, in_X10, tyX10_ok, nmX10⟩
theorem xc_10 : XC 10 RX11 TX11 tyX11 3 := ⟨rfl, in_X11, tyX11_ok, nmX11⟩
theorem xc_11 : XC 11 RX12 TX12 tyX12 7 := ⟨rfl, in_X12, tyX12_ok, nmX12⟩
theorem xc_12 : XC 12 RJ2 TJ2 tyJ2 3 := ⟨rfl, in_J2, tyJ2_ok, nmJ2⟩
theorem xc_13 : XC 13 RJ15 TJ15 tyJ15 4 := ⟨rfl, in_J15, tyJ15_ok, nmJ15⟩
theorem xc_14 : XC 14 RJ6 TJ6 tyJ6 4 := ⟨rfl, in_J6, tyJ6_ok, nmJ6⟩
theorem xc_15 : XC 15 RJ7 TJ7 tyJ7 4 := ⟨rfl, in_J7, tyJ7_ok, nmJ7⟩

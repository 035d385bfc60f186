/-! StrangeKnivesModel -/
set_option maxRecDepth 100000
def RX7 : String := "StrangeKnivesModel"
def TX7 : u_T := fun k => match k with
  | 0 => ("StrangeKnivesModel", "kinds", "[Ljava/lang/String;", true)
  | 1 => ("StrangeKnivesModel", "values", "[Ljava/lang/String;", true)
  | 2 => ("StrangeKnivesModel", "code", "I", false)
  | 3 => ("StrangeKnivesModel", "told", "[I", true)
  | 4 => ("StrangeKnivesModel", "kind", "[I", true)
  | 5 => ("StrangeKnivesModel", "house", "[I", true)
  | 6 => ("StrangeKnivesModel", "hunger", "[I", true)
  | 7 => ("StrangeKnivesModel", "loafAt", "[I", true)
  | 8 => ("StrangeKnivesModel", "loafSize", "[I", true)
  | 9 => ("StrangeKnivesModel", "baked", "[I", true)
  | 10 => ("StrangeKnivesModel", "fresh", "[I", true)
  | 11 => ("StrangeKnivesModel", "eatMany", "[I", true)
  | 12 => ("StrangeKnivesModel", "eaters", "[I", true)
  | 13 => ("StrangeKnivesModel", "metDay", "[I", true)
  | 14 => ("StrangeKnivesModel", "signs", "[I", true)
  | 15 => ("StrangeKnivesModel", "status", "[I", true)
  | 16 => ("StrangeKnivesModel", "tape", "[I", true)
  | 17 => ("StrangeKnivesModel", "taped", "I", false)
  | 18 => ("StrangeKnivesModel", "at", "I", false)
  | 19 => ("StrangeKnivesModel", "size", "I", false)
  | 20 => ("StrangeKnivesModel", "token", "I", false)
  | 21 => ("StrangeKnivesModel", "number", "I", false)
  | 22 => ("StrangeKnivesModel", "begins", "I", false)
  | 23 => ("StrangeKnivesModel", "stops", "I", false)
  | 24 => ("StrangeKnivesModel", "bad", "I", false)
  | 25 => ("StrangeKnivesModel", "badPlace", "I", false)
  | 26 => ("StrangeKnivesModel", "faultPlace", "I", false)
  | 27 => ("StrangeKnivesModel", "cutBy", "[I", true)
  | 28 => ("StrangeKnivesModel", "thanked", "[I", true)
  | 29 => ("StrangeKnivesModel", "past", "[I", true)
  | 30 => ("StrangeKnivesModel", "today", "I", false)
  | 31 => ("StrangeKnivesModel", "hour", "I", false)
  | 32 => ("StrangeKnivesModel", "acts", "I", false)
  | 33 => ("StrangeKnivesModel", "seen", "I", false)
  | 34 => ("StrangeKnivesModel", "balked", "I", false)
  | 35 => ("StrangeKnivesModel", "asked", "[I", true)
  | 36 => ("StrangeKnivesModel", "stack", "[I", true)
  | 37 => ("StrangeKnivesModel", "slices", "[I", true)
  | 38 => ("StrangeKnivesModel", "unitOf", "[I", true)
  | 39 => ("StrangeKnivesModel", "got", "[I", true)
  | 40 => ("StrangeKnivesModel", "sliceMany", "I", false)
  | 41 => ("StrangeKnivesModel", "crumbs", "I", false)
  | 42 => ("StrangeKnivesModel", "rowTry", "[I", true)
  | 43 => ("StrangeKnivesModel", "rowKept", "[I", true)
  | 44 => ("StrangeKnivesModel", "leastHouses", "I", false)
  | 45 => ("StrangeKnivesModel", "isKept", "Z", false)
  | 46 => ("StrangeKnivesModel", "isFound", "Z", false)
  | 47 => ("StrangeKnivesModel", "rowWas", "[I", true)
  | 48 => ("StrangeKnivesModel", "rowThen", "[I", true)
  | 49 => ("StrangeKnivesModel", "helps", "[I", true)
  | 50 => ("StrangeKnivesModel", "helpTried", "I", false)
  | 51 => ("StrangeKnivesModel", "seenLoaf", "[I", true)
  | 52 => ("StrangeKnivesModel", "seenAt", "[I", true)
  | 53 => ("StrangeKnivesModel", "seenMuch", "[I", true)
  | 54 => ("StrangeKnivesModel", "balkWho", "[I", true)
  | 55 => ("StrangeKnivesModel", "balkLoaf", "[I", true)
  | 56 => ("StrangeKnivesModel", "seedNow", "I", false)
  | 57 => ("StrangeKnivesModel", "hasImage", "Z", false)
  | 58 => ("StrangeKnivesModel", "actsThen", "I", false)
  | 59 => ("StrangeKnivesModel", "seenThen", "I", false)
  | 60 => ("StrangeKnivesModel", "balkedThen", "I", false)
  | 61 => ("StrangeKnivesModel", "imageRow", "[I", true)
  | 62 => ("StrangeKnivesModel", "pastThen", "[I", true)
  | 63 => ("StrangeKnivesModel", "seenLoafThen", "[I", true)
  | 64 => ("StrangeKnivesModel", "seenAtThen", "[I", true)
  | 65 => ("StrangeKnivesModel", "seenMuchThen", "[I", true)
  | 66 => ("StrangeKnivesModel", "balkWhoThen", "[I", true)
  | 67 => ("StrangeKnivesModel", "balkLoafThen", "[I", true)
  | _ => ("StrangeKnivesModel", "statusThen", "[I", true)
def tyX7 : Nat → FieldType := fun k => match k with
  | 0 => .array (.object "java/lang/String")
  | 1 => .array (.object "java/lang/String")
  | 2 => .int
  | 3 => .array .int
  | 4 => .array .int
  | 5 => .array .int
  | 6 => .array .int
  | 7 => .array .int
  | 8 => .array .int
  | 9 => .array .int
  | 10 => .array .int
  | 11 => .array .int
  | 12 => .array .int
  | 13 => .array .int
  | 14 => .array .int
  | 15 => .array .int
  | 16 => .array .int
  | 17 => .int
  | 18 => .int
  | 19 => .int
  | 20 => .int
  | 21 => .int
  | 22 => .int
  | 23 => .int
  | 24 => .int
  | 25 => .int
  | 26 => .int
  | 27 => .array .int
  | 28 => .array .int
  | 29 => .array .int
  | 30 => .int
  | 31 => .int
  | 32 => .int
  | 33 => .int
  | 34 => .int
  | 35 => .array .int
  | 36 => .array .int
  | 37 => .array .int
  | 38 => .array .int
  | 39 => .array .int
  | 40 => .int
  | 41 => .int
  | 42 => .array .int
  | 43 => .array .int
  | 44 => .int
  | 45 => .boolean
  | 46 => .boolean
  | 47 => .array .int
  | 48 => .array .int
  | 49 => .array .int
  | 50 => .int
  | 51 => .array .int
  | 52 => .array .int
  | 53 => .array .int
  | 54 => .array .int
  | 55 => .array .int
  | 56 => .int
  | 57 => .boolean
  | 58 => .int
  | 59 => .int
  | 60 => .int
  | 61 => .array .int
  | 62 => .array .int
  | 63 => .array .int
  | 64 => .array .int
  | 65 => .array .int
  | 66 => .array .int
  | 67 => .array .int
  | _ => .array .int
abbrev wsX70 : List Cond := u_ws RX7 TX7 69
set_option maxRecDepth 100000 in
theorem nmX7 : ∀ a, a < 69 → ∀ b, b < 69 → a ≠ b → (TX7 a).2.1 ≠ (TX7 b).2.1 := by decide +kernel
set_option maxRecDepth 100000 in
theorem tyX7_ok : ∀ k, k < 69 → parseFieldDescriptor (TX7 k).2.2.1 = some (tyX7 k) := by decide +kernel
abbrev cX7_init : ByteArray := prog_21_method_1_code
def yX7_init : MethodName := ⟨RX7, "<init>", "()V"⟩
def dkwX7_init_20 : List UInt8 := [188, 10, 181, 0, 156, 177]
abbrev dktX7_init_20 : List UInt8 := dkwX7_init_20 ++ []
def dkwX7_init_19 : List UInt8 := [42, 16, 6, 188, 10, 181, 0, 147, 42, 7, 188, 10, 181, 0, 150, 42, 7, 188, 10, 181, 0, 153, 42, 6]
abbrev dktX7_init_19 : List UInt8 := dkwX7_init_19 ++ dktX7_init_20
def dkwX7_init_18 : List UInt8 := [17, 12, 128, 188, 10, 181, 0, 138, 42, 16, 6, 188, 10, 181, 0, 141, 42, 16, 6, 188, 10, 181, 0, 144]
abbrev dktX7_init_18 : List UInt8 := dkwX7_init_18 ++ dktX7_init_19
def dkwX7_init_17 : List UInt8 := [42, 7, 188, 10, 181, 0, 129, 42, 7, 188, 10, 181, 0, 132, 42, 16, 80, 188, 10, 181, 0, 135, 42]
abbrev dktX7_init_17 : List UInt8 := dkwX7_init_17 ++ dktX7_init_18
def dkwX7_init_16 : List UInt8 := [42, 16, 6, 188, 10, 181, 0, 120, 42, 16, 6, 188, 10, 181, 0, 123, 42, 16, 6, 188, 10, 181, 0, 126]
abbrev dktX7_init_16 : List UInt8 := dkwX7_init_16 ++ dktX7_init_17
def dkwX7_init_15 : List UInt8 := [42, 16, 6, 188, 10, 181, 0, 111, 42, 16, 80, 188, 10, 181, 0, 114, 42, 16, 8, 188, 10, 181, 0, 117]
abbrev dktX7_init_15 : List UInt8 := dkwX7_init_15 ++ dktX7_init_16
def dkwX7_init_14 : List UInt8 := [42, 16, 6, 188, 10, 181, 0, 102, 42, 16, 6, 188, 10, 181, 0, 105, 42, 16, 6, 188, 10, 181, 0, 108]
abbrev dktX7_init_14 : List UInt8 := dkwX7_init_14 ++ dktX7_init_15
def dkwX7_init_13 : List UInt8 := [42, 16, 64, 188, 10, 181, 0, 94, 42, 16, 6, 188, 10, 181, 0, 97, 42, 16, 6, 188, 10, 181, 0, 99]
abbrev dktX7_init_13 : List UInt8 := dkwX7_init_13 ++ dktX7_init_14
def dkwX7_init_12 : List UInt8 := [16, 8, 188, 10, 181, 0, 86, 42, 17, 12, 128, 188, 10, 181, 0, 88, 42, 16, 6, 188, 10, 181, 0, 91]
abbrev dktX7_init_12 : List UInt8 := dkwX7_init_12 ++ dktX7_init_13
def dkwX7_init_11 : List UInt8 := [4, 2, 79, 89, 5, 2, 79, 89, 6, 2, 79, 89, 7, 2, 79, 89, 8, 2, 79, 181, 0, 83, 42]
abbrev dktX7_init_11 : List UInt8 := dkwX7_init_11 ++ dktX7_init_12
def dkwX7_init_10 : List UInt8 := [42, 17, 2, 88, 188, 10, 181, 0, 76, 42, 2, 181, 0, 79, 42, 16, 6, 188, 10, 89, 3, 2, 79, 89]
abbrev dktX7_init_10 : List UInt8 := dkwX7_init_10 ++ dktX7_init_11
def dkwX7_init_9 : List UInt8 := [17, 0, 128, 188, 10, 181, 0, 67, 42, 17, 4, 176, 188, 10, 181, 0, 70, 42, 6, 188, 10, 181, 0, 73]
abbrev dktX7_init_9 : List UInt8 := dkwX7_init_9 ++ dktX7_init_10
def dkwX7_init_8 : List UInt8 := [188, 10, 181, 0, 58, 42, 16, 12, 188, 10, 181, 0, 61, 42, 16, 72, 188, 10, 181, 0, 64, 42]
abbrev dktX7_init_8 : List UInt8 := dkwX7_init_8 ++ dktX7_init_9
def dkwX7_init_7 : List UInt8 := [188, 10, 181, 0, 49, 42, 16, 12, 188, 10, 181, 0, 52, 42, 16, 12, 188, 10, 181, 0, 55, 42, 16, 12]
abbrev dktX7_init_7 : List UInt8 := dkwX7_init_7 ++ dktX7_init_8
def dkwX7_init_6 : List UInt8 := [188, 10, 181, 0, 42, 42, 16, 16, 188, 10, 181, 0, 44, 42, 16, 16, 188, 10, 181, 0, 47, 42, 16, 12]
abbrev dktX7_init_6 : List UInt8 := dkwX7_init_6 ++ dktX7_init_7
def dkwX7_init_5 : List UInt8 := [16, 9, 17, 1, 109, 79, 89, 16, 10, 16, 12, 79, 89, 16, 11, 3, 79, 181, 0, 38, 42, 16, 16]
abbrev dktX7_init_5 : List UInt8 := dkwX7_init_5 ++ dktX7_init_6
def dkwX7_init_4 : List UInt8 := [16, 12, 79, 89, 8, 3, 79, 89, 16, 6, 3, 79, 89, 16, 7, 3, 79, 89, 16, 8, 3, 79, 89]
abbrev dktX7_init_4 : List UInt8 := dkwX7_init_4 ++ dktX7_init_5
def dkwX7_init_3 : List UInt8 := [16, 12, 188, 10, 89, 3, 3, 79, 89, 4, 3, 79, 89, 5, 3, 79, 89, 6, 17, 1, 109, 79, 89, 7]
abbrev dktX7_init_3 : List UInt8 := dkwX7_init_3 ++ dktX7_init_4
def dkwX7_init_2 : List UInt8 := [89, 5, 18, 27, 83, 89, 6, 18, 29, 83, 89, 7, 18, 31, 83, 89, 8, 18, 33, 83, 181, 0, 35, 42]
abbrev dktX7_init_2 : List UInt8 := dkwX7_init_2 ++ dktX7_init_3
def dkwX7_init_1 : List UInt8 := [89, 6, 18, 17, 83, 181, 0, 19, 42, 16, 6, 189, 0, 9, 89, 3, 18, 23, 83, 89, 4, 18, 25, 83]
abbrev dktX7_init_1 : List UInt8 := dkwX7_init_1 ++ dktX7_init_2
def dkwX7_init_0 : List UInt8 := [42, 183, 0, 3, 42, 7, 189, 0, 9, 89, 3, 18, 11, 83, 89, 4, 18, 13, 83, 89, 5, 18, 15, 83]
abbrev dktX7_init_0 : List UInt8 := dkwX7_init_0 ++ dktX7_init_1
theorem dksX7_init_0 : cX7_init.data.toList.drop 0 = dktX7_init_0 := by decide +kernel
theorem dksX7_init_1 : cX7_init.data.toList.drop 24 = dktX7_init_1 := dk_seg dksX7_init_0 24 rfl rfl
theorem dksX7_init_2 : cX7_init.data.toList.drop 48 = dktX7_init_2 := dk_seg dksX7_init_1 24 rfl rfl
theorem dksX7_init_3 : cX7_init.data.toList.drop 72 = dktX7_init_3 := dk_seg dksX7_init_2 24 rfl rfl
theorem dksX7_init_4 : cX7_init.data.toList.drop 96 = dktX7_init_4 := dk_seg dksX7_init_3 24 rfl rfl
theorem dksX7_init_5 : cX7_init.data.toList.drop 119 = dktX7_init_5 := dk_seg dksX7_init_4 23 rfl rfl
theorem dksX7_init_6 : cX7_init.data.toList.drop 142 = dktX7_init_6 := dk_seg dksX7_init_5 23 rfl rfl
theorem dksX7_init_7 : cX7_init.data.toList.drop 166 = dktX7_init_7 := dk_seg dksX7_init_6 24 rfl rfl
theorem dksX7_init_8 : cX7_init.data.toList.drop 190 = dktX7_init_8 := dk_seg dksX7_init_7 24 rfl rfl
theorem dksX7_init_9 : cX7_init.data.toList.drop 212 = dktX7_init_9 := dk_seg dksX7_init_8 22 rfl rfl
theorem dksX7_init_10 : cX7_init.data.toList.drop 236 = dktX7_init_10 := dk_seg dksX7_init_9 24 rfl rfl
theorem dksX7_init_11 : cX7_init.data.toList.drop 260 = dktX7_init_11 := dk_seg dksX7_init_10 24 rfl rfl
theorem dksX7_init_12 : cX7_init.data.toList.drop 283 = dktX7_init_12 := dk_seg dksX7_init_11 23 rfl rfl
theorem dksX7_init_13 : cX7_init.data.toList.drop 307 = dktX7_init_13 := dk_seg dksX7_init_12 24 rfl rfl
theorem dksX7_init_14 : cX7_init.data.toList.drop 331 = dktX7_init_14 := dk_seg dksX7_init_13 24 rfl rfl
theorem dksX7_init_15 : cX7_init.data.toList.drop 355 = dktX7_init_15 := dk_seg dksX7_init_14 24 rfl rfl
theorem dksX7_init_16 : cX7_init.data.toList.drop 379 = dktX7_init_16 := dk_seg dksX7_init_15 24 rfl rfl
theorem dksX7_init_17 : cX7_init.data.toList.drop 403 = dktX7_init_17 := dk_seg dksX7_init_16 24 rfl rfl
theorem dksX7_init_18 : cX7_init.data.toList.drop 426 = dktX7_init_18 := dk_seg dksX7_init_17 23 rfl rfl
theorem dksX7_init_19 : cX7_init.data.toList.drop 450 = dktX7_init_19 := dk_seg dksX7_init_18 24 rfl rfl
theorem dksX7_init_20 : cX7_init.data.toList.drop 474 = dktX7_init_20 := dk_seg dksX7_init_19 24 rfl rfl
theorem dX7_init_0 : decode cX7_init 0 = .ok (.aload_n 0, 1) := dk_42 (dk_at dksX7_init_0 0 rfl rfl)
theorem dX7_init_1 : decode cX7_init 1 = .ok (.invokespecial 3, 3) := dk_183 0 3 (dk_at dksX7_init_0 1 rfl rfl)
theorem dX7_init_4 : decode cX7_init 4 = .ok (.aload_n 0, 1) := dk_42 (dk_at dksX7_init_0 4 rfl rfl)
theorem dX7_init_5 : decode cX7_init 5 = .ok (.iconst 4, 1) := dk_7 (dk_at dksX7_init_0 5 rfl rfl)
theorem dX7_init_6 : decode cX7_init 6 = .ok (.anewarray 9, 3) := dk_189 0 9 (dk_at dksX7_init_0 6 rfl rfl)
theorem dX7_init_9 : decode cX7_init 9 = .ok (.dup, 1) := dk_89 (dk_at dksX7_init_0 9 rfl rfl)
theorem dX7_init_10 : decode cX7_init 10 = .ok (.iconst 0, 1) := dk_3 (dk_at dksX7_init_0 10 rfl rfl)
theorem dX7_init_11 : decode cX7_init 11 = .ok (.ldc 11, 2) := dk_18 11 (dk_at dksX7_init_0 11 rfl rfl)
theorem dX7_init_13 : decode cX7_init 13 = .ok (.aastore, 1) := dk_83 (dk_at dksX7_init_0 13 rfl rfl)
theorem dX7_init_14 : decode cX7_init 14 = .ok (.dup, 1) := dk_89 (dk_at dksX7_init_0 14 rfl rfl)
theorem dX7_init_15 : decode cX7_init 15 = .ok (.iconst 1, 1) := dk_4 (dk_at dksX7_init_0 15 rfl rfl)
theorem dX7_init_16 : decode cX7_init 16 = .ok (.ldc 13, 2) := dk_18 13 (dk_at dksX7_init_0 16 rfl rfl)
theorem dX7_init_18 : decode cX7_init 18 = .ok (.aastore, 1) := dk_83 (dk_at dksX7_init_0 18 rfl rfl)
theorem dX7_init_19 : decode cX7_init 19 = .ok (.dup, 1) := dk_89 (dk_at dksX7_init_0 19 rfl rfl)
theorem dX7_init_20 : decode cX7_init 20 = .ok (.iconst 2, 1) := dk_5 (dk_at dksX7_init_0 20 rfl rfl)
theorem dX7_init_21 : decode cX7_init 21 = .ok (.ldc 15, 2) := dk_18 15 (dk_at dksX7_init_0 21 rfl rfl)
theorem dX7_init_23 : decode cX7_init 23 = .ok (.aastore, 1) := dk_83 (dk_at dksX7_init_0 23 rfl rfl)
theorem dX7_init_24 : decode cX7_init 24 = .ok (.dup, 1) := dk_89 (dk_at dksX7_init_1 0 rfl rfl)
theorem dX7_init_25 : decode cX7_init 25 = .ok (.iconst 3, 1) := dk_6 (dk_at dksX7_init_1 1 rfl rfl)
theorem dX7_init_26 : decode cX7_init 26 = .ok (.ldc 17, 2) := dk_18 17 (dk_at dksX7_init_1 2 rfl rfl)
theorem dX7_init_28 : decode cX7_init 28 = .ok (.aastore, 1) := dk_83 (dk_at dksX7_init_1 4 rfl rfl)
theorem dX7_init_29 : decode cX7_init 29 = .ok (.putfield 19, 3) := dk_181 0 19 (dk_at dksX7_init_1 5 rfl rfl)
theorem dX7_init_32 : decode cX7_init 32 = .ok (.aload_n 0, 1) := dk_42 (dk_at dksX7_init_1 8 rfl rfl)
theorem dX7_init_33 : decode cX7_init 33 = .ok (.bipush 6, 2) := dk_16 6 (dk_at dksX7_init_1 9 rfl rfl)
theorem dX7_init_35 : decode cX7_init 35 = .ok (.anewarray 9, 3) := dk_189 0 9 (dk_at dksX7_init_1 11 rfl rfl)
theorem dX7_init_38 : decode cX7_init 38 = .ok (.dup, 1) := dk_89 (dk_at dksX7_init_1 14 rfl rfl)
theorem dX7_init_39 : decode cX7_init 39 = .ok (.iconst 0, 1) := dk_3 (dk_at dksX7_init_1 15 rfl rfl)
theorem dX7_init_40 : decode cX7_init 40 = .ok (.ldc 23, 2) := dk_18 23 (dk_at dksX7_init_1 16 rfl rfl)
theorem dX7_init_42 : decode cX7_init 42 = .ok (.aastore, 1) := dk_83 (dk_at dksX7_init_1 18 rfl rfl)
theorem dX7_init_43 : decode cX7_init 43 = .ok (.dup, 1) := dk_89 (dk_at dksX7_init_1 19 rfl rfl)
theorem dX7_init_44 : decode cX7_init 44 = .ok (.iconst 1, 1) := dk_4 (dk_at dksX7_init_1 20 rfl rfl)
theorem dX7_init_45 : decode cX7_init 45 = .ok (.ldc 25, 2) := dk_18 25 (dk_at dksX7_init_1 21 rfl rfl)
theorem dX7_init_47 : decode cX7_init 47 = .ok (.aastore, 1) := dk_83 (dk_at dksX7_init_1 23 rfl rfl)
theorem dX7_init_48 : decode cX7_init 48 = .ok (.dup, 1) := dk_89 (dk_at dksX7_init_2 0 rfl rfl)
theorem dX7_init_49 : decode cX7_init 49 = .ok (.iconst 2, 1) := dk_5 (dk_at dksX7_init_2 1 rfl rfl)
theorem dX7_init_50 : decode cX7_init 50 = .ok (.ldc 27, 2) := dk_18 27 (dk_at dksX7_init_2 2 rfl rfl)
theorem dX7_init_52 : decode cX7_init 52 = .ok (.aastore, 1) := dk_83 (dk_at dksX7_init_2 4 rfl rfl)
theorem dX7_init_53 : decode cX7_init 53 = .ok (.dup, 1) := dk_89 (dk_at dksX7_init_2 5 rfl rfl)
theorem dX7_init_54 : decode cX7_init 54 = .ok (.iconst 3, 1) := dk_6 (dk_at dksX7_init_2 6 rfl rfl)
theorem dX7_init_55 : decode cX7_init 55 = .ok (.ldc 29, 2) := dk_18 29 (dk_at dksX7_init_2 7 rfl rfl)
theorem dX7_init_57 : decode cX7_init 57 = .ok (.aastore, 1) := dk_83 (dk_at dksX7_init_2 9 rfl rfl)
theorem dX7_init_58 : decode cX7_init 58 = .ok (.dup, 1) := dk_89 (dk_at dksX7_init_2 10 rfl rfl)
theorem dX7_init_59 : decode cX7_init 59 = .ok (.iconst 4, 1) := dk_7 (dk_at dksX7_init_2 11 rfl rfl)
theorem dX7_init_60 : decode cX7_init 60 = .ok (.ldc 31, 2) := dk_18 31 (dk_at dksX7_init_2 12 rfl rfl)
theorem dX7_init_62 : decode cX7_init 62 = .ok (.aastore, 1) := dk_83 (dk_at dksX7_init_2 14 rfl rfl)
theorem dX7_init_63 : decode cX7_init 63 = .ok (.dup, 1) := dk_89 (dk_at dksX7_init_2 15 rfl rfl)
theorem dX7_init_64 : decode cX7_init 64 = .ok (.iconst 5, 1) := dk_8 (dk_at dksX7_init_2 16 rfl rfl)
theorem dX7_init_65 : decode cX7_init 65 = .ok (.ldc 33, 2) := dk_18 33 (dk_at dksX7_init_2 17 rfl rfl)
theorem dX7_init_67 : decode cX7_init 67 = .ok (.aastore, 1) := dk_83 (dk_at dksX7_init_2 19 rfl rfl)
theorem dX7_init_68 : decode cX7_init 68 = .ok (.putfield 35, 3) := dk_181 0 35 (dk_at dksX7_init_2 20 rfl rfl)
theorem dX7_init_71 : decode cX7_init 71 = .ok (.aload_n 0, 1) := dk_42 (dk_at dksX7_init_2 23 rfl rfl)
theorem dX7_init_72 : decode cX7_init 72 = .ok (.bipush 12, 2) := dk_16 12 (dk_at dksX7_init_3 0 rfl rfl)
theorem dX7_init_74 : decode cX7_init 74 = .ok (.newarray .int, 2) := dk_188_10 (dk_at dksX7_init_3 2 rfl rfl)
theorem dX7_init_76 : decode cX7_init 76 = .ok (.dup, 1) := dk_89 (dk_at dksX7_init_3 4 rfl rfl)
theorem dX7_init_77 : decode cX7_init 77 = .ok (.iconst 0, 1) := dk_3 (dk_at dksX7_init_3 5 rfl rfl)
theorem dX7_init_78 : decode cX7_init 78 = .ok (.iconst 0, 1) := dk_3 (dk_at dksX7_init_3 6 rfl rfl)
theorem dX7_init_79 : decode cX7_init 79 = .ok (.iastore, 1) := dk_79 (dk_at dksX7_init_3 7 rfl rfl)
theorem dX7_init_80 : decode cX7_init 80 = .ok (.dup, 1) := dk_89 (dk_at dksX7_init_3 8 rfl rfl)
theorem dX7_init_81 : decode cX7_init 81 = .ok (.iconst 1, 1) := dk_4 (dk_at dksX7_init_3 9 rfl rfl)
theorem dX7_init_82 : decode cX7_init 82 = .ok (.iconst 0, 1) := dk_3 (dk_at dksX7_init_3 10 rfl rfl)
theorem dX7_init_83 : decode cX7_init 83 = .ok (.iastore, 1) := dk_79 (dk_at dksX7_init_3 11 rfl rfl)
theorem dX7_init_84 : decode cX7_init 84 = .ok (.dup, 1) := dk_89 (dk_at dksX7_init_3 12 rfl rfl)
theorem dX7_init_85 : decode cX7_init 85 = .ok (.iconst 2, 1) := dk_5 (dk_at dksX7_init_3 13 rfl rfl)
theorem dX7_init_86 : decode cX7_init 86 = .ok (.iconst 0, 1) := dk_3 (dk_at dksX7_init_3 14 rfl rfl)
theorem dX7_init_87 : decode cX7_init 87 = .ok (.iastore, 1) := dk_79 (dk_at dksX7_init_3 15 rfl rfl)
theorem dX7_init_88 : decode cX7_init 88 = .ok (.dup, 1) := dk_89 (dk_at dksX7_init_3 16 rfl rfl)
theorem dX7_init_89 : decode cX7_init 89 = .ok (.iconst 3, 1) := dk_6 (dk_at dksX7_init_3 17 rfl rfl)
theorem dX7_init_90 : decode cX7_init 90 = .ok (.sipush 365, 3) := dk_17 1 109 (dk_at dksX7_init_3 18 rfl rfl)
theorem dX7_init_93 : decode cX7_init 93 = .ok (.iastore, 1) := dk_79 (dk_at dksX7_init_3 21 rfl rfl)
theorem dX7_init_94 : decode cX7_init 94 = .ok (.dup, 1) := dk_89 (dk_at dksX7_init_3 22 rfl rfl)
theorem dX7_init_95 : decode cX7_init 95 = .ok (.iconst 4, 1) := dk_7 (dk_at dksX7_init_3 23 rfl rfl)
theorem dX7_init_96 : decode cX7_init 96 = .ok (.bipush 12, 2) := dk_16 12 (dk_at dksX7_init_4 0 rfl rfl)
theorem dX7_init_98 : decode cX7_init 98 = .ok (.iastore, 1) := dk_79 (dk_at dksX7_init_4 2 rfl rfl)
theorem dX7_init_99 : decode cX7_init 99 = .ok (.dup, 1) := dk_89 (dk_at dksX7_init_4 3 rfl rfl)
theorem dX7_init_100 : decode cX7_init 100 = .ok (.iconst 5, 1) := dk_8 (dk_at dksX7_init_4 4 rfl rfl)
theorem dX7_init_101 : decode cX7_init 101 = .ok (.iconst 0, 1) := dk_3 (dk_at dksX7_init_4 5 rfl rfl)
theorem dX7_init_102 : decode cX7_init 102 = .ok (.iastore, 1) := dk_79 (dk_at dksX7_init_4 6 rfl rfl)
theorem dX7_init_103 : decode cX7_init 103 = .ok (.dup, 1) := dk_89 (dk_at dksX7_init_4 7 rfl rfl)
theorem dX7_init_104 : decode cX7_init 104 = .ok (.bipush 6, 2) := dk_16 6 (dk_at dksX7_init_4 8 rfl rfl)
theorem dX7_init_106 : decode cX7_init 106 = .ok (.iconst 0, 1) := dk_3 (dk_at dksX7_init_4 10 rfl rfl)
theorem dX7_init_107 : decode cX7_init 107 = .ok (.iastore, 1) := dk_79 (dk_at dksX7_init_4 11 rfl rfl)
theorem dX7_init_108 : decode cX7_init 108 = .ok (.dup, 1) := dk_89 (dk_at dksX7_init_4 12 rfl rfl)
theorem dX7_init_109 : decode cX7_init 109 = .ok (.bipush 7, 2) := dk_16 7 (dk_at dksX7_init_4 13 rfl rfl)
theorem dX7_init_111 : decode cX7_init 111 = .ok (.iconst 0, 1) := dk_3 (dk_at dksX7_init_4 15 rfl rfl)
theorem dX7_init_112 : decode cX7_init 112 = .ok (.iastore, 1) := dk_79 (dk_at dksX7_init_4 16 rfl rfl)
theorem dX7_init_113 : decode cX7_init 113 = .ok (.dup, 1) := dk_89 (dk_at dksX7_init_4 17 rfl rfl)
theorem dX7_init_114 : decode cX7_init 114 = .ok (.bipush 8, 2) := dk_16 8 (dk_at dksX7_init_4 18 rfl rfl)
theorem dX7_init_116 : decode cX7_init 116 = .ok (.iconst 0, 1) := dk_3 (dk_at dksX7_init_4 20 rfl rfl)
theorem dX7_init_117 : decode cX7_init 117 = .ok (.iastore, 1) := dk_79 (dk_at dksX7_init_4 21 rfl rfl)
theorem dX7_init_118 : decode cX7_init 118 = .ok (.dup, 1) := dk_89 (dk_at dksX7_init_4 22 rfl rfl)
theorem dX7_init_119 : decode cX7_init 119 = .ok (.bipush 9, 2) := dk_16 9 (dk_at dksX7_init_5 0 rfl rfl)
theorem dX7_init_121 : decode cX7_init 121 = .ok (.sipush 365, 3) := dk_17 1 109 (dk_at dksX7_init_5 2 rfl rfl)
theorem dX7_init_124 : decode cX7_init 124 = .ok (.iastore, 1) := dk_79 (dk_at dksX7_init_5 5 rfl rfl)
theorem dX7_init_125 : decode cX7_init 125 = .ok (.dup, 1) := dk_89 (dk_at dksX7_init_5 6 rfl rfl)
theorem dX7_init_126 : decode cX7_init 126 = .ok (.bipush 10, 2) := dk_16 10 (dk_at dksX7_init_5 7 rfl rfl)
theorem dX7_init_128 : decode cX7_init 128 = .ok (.bipush 12, 2) := dk_16 12 (dk_at dksX7_init_5 9 rfl rfl)
theorem dX7_init_130 : decode cX7_init 130 = .ok (.iastore, 1) := dk_79 (dk_at dksX7_init_5 11 rfl rfl)
theorem dX7_init_131 : decode cX7_init 131 = .ok (.dup, 1) := dk_89 (dk_at dksX7_init_5 12 rfl rfl)
theorem dX7_init_132 : decode cX7_init 132 = .ok (.bipush 11, 2) := dk_16 11 (dk_at dksX7_init_5 13 rfl rfl)
theorem dX7_init_134 : decode cX7_init 134 = .ok (.iconst 0, 1) := dk_3 (dk_at dksX7_init_5 15 rfl rfl)
theorem dX7_init_135 : decode cX7_init 135 = .ok (.iastore, 1) := dk_79 (dk_at dksX7_init_5 16 rfl rfl)
theorem dX7_init_136 : decode cX7_init 136 = .ok (.putfield 38, 3) := dk_181 0 38 (dk_at dksX7_init_5 17 rfl rfl)
theorem dX7_init_139 : decode cX7_init 139 = .ok (.aload_n 0, 1) := dk_42 (dk_at dksX7_init_5 20 rfl rfl)
theorem dX7_init_140 : decode cX7_init 140 = .ok (.bipush 16, 2) := dk_16 16 (dk_at dksX7_init_5 21 rfl rfl)
theorem dX7_init_142 : decode cX7_init 142 = .ok (.newarray .int, 2) := dk_188_10 (dk_at dksX7_init_6 0 rfl rfl)
theorem dX7_init_144 : decode cX7_init 144 = .ok (.putfield 42, 3) := dk_181 0 42 (dk_at dksX7_init_6 2 rfl rfl)
theorem dX7_init_147 : decode cX7_init 147 = .ok (.aload_n 0, 1) := dk_42 (dk_at dksX7_init_6 5 rfl rfl)
theorem dX7_init_148 : decode cX7_init 148 = .ok (.bipush 16, 2) := dk_16 16 (dk_at dksX7_init_6 6 rfl rfl)
theorem dX7_init_150 : decode cX7_init 150 = .ok (.newarray .int, 2) := dk_188_10 (dk_at dksX7_init_6 8 rfl rfl)
theorem dX7_init_152 : decode cX7_init 152 = .ok (.putfield 44, 3) := dk_181 0 44 (dk_at dksX7_init_6 10 rfl rfl)
theorem dX7_init_155 : decode cX7_init 155 = .ok (.aload_n 0, 1) := dk_42 (dk_at dksX7_init_6 13 rfl rfl)
theorem dX7_init_156 : decode cX7_init 156 = .ok (.bipush 16, 2) := dk_16 16 (dk_at dksX7_init_6 14 rfl rfl)
theorem dX7_init_158 : decode cX7_init 158 = .ok (.newarray .int, 2) := dk_188_10 (dk_at dksX7_init_6 16 rfl rfl)
theorem dX7_init_160 : decode cX7_init 160 = .ok (.putfield 47, 3) := dk_181 0 47 (dk_at dksX7_init_6 18 rfl rfl)
theorem dX7_init_163 : decode cX7_init 163 = .ok (.aload_n 0, 1) := dk_42 (dk_at dksX7_init_6 21 rfl rfl)
theorem dX7_init_164 : decode cX7_init 164 = .ok (.bipush 12, 2) := dk_16 12 (dk_at dksX7_init_6 22 rfl rfl)
theorem dX7_init_166 : decode cX7_init 166 = .ok (.newarray .int, 2) := dk_188_10 (dk_at dksX7_init_7 0 rfl rfl)
theorem dX7_init_168 : decode cX7_init 168 = .ok (.putfield 49, 3) := dk_181 0 49 (dk_at dksX7_init_7 2 rfl rfl)
theorem dX7_init_171 : decode cX7_init 171 = .ok (.aload_n 0, 1) := dk_42 (dk_at dksX7_init_7 5 rfl rfl)
theorem dX7_init_172 : decode cX7_init 172 = .ok (.bipush 12, 2) := dk_16 12 (dk_at dksX7_init_7 6 rfl rfl)
theorem dX7_init_174 : decode cX7_init 174 = .ok (.newarray .int, 2) := dk_188_10 (dk_at dksX7_init_7 8 rfl rfl)
theorem dX7_init_176 : decode cX7_init 176 = .ok (.putfield 52, 3) := dk_181 0 52 (dk_at dksX7_init_7 10 rfl rfl)
theorem dX7_init_179 : decode cX7_init 179 = .ok (.aload_n 0, 1) := dk_42 (dk_at dksX7_init_7 13 rfl rfl)
theorem dX7_init_180 : decode cX7_init 180 = .ok (.bipush 12, 2) := dk_16 12 (dk_at dksX7_init_7 14 rfl rfl)
theorem dX7_init_182 : decode cX7_init 182 = .ok (.newarray .int, 2) := dk_188_10 (dk_at dksX7_init_7 16 rfl rfl)
theorem dX7_init_184 : decode cX7_init 184 = .ok (.putfield 55, 3) := dk_181 0 55 (dk_at dksX7_init_7 18 rfl rfl)
theorem dX7_init_187 : decode cX7_init 187 = .ok (.aload_n 0, 1) := dk_42 (dk_at dksX7_init_7 21 rfl rfl)
theorem dX7_init_188 : decode cX7_init 188 = .ok (.bipush 12, 2) := dk_16 12 (dk_at dksX7_init_7 22 rfl rfl)
theorem dX7_init_190 : decode cX7_init 190 = .ok (.newarray .int, 2) := dk_188_10 (dk_at dksX7_init_8 0 rfl rfl)
theorem dX7_init_192 : decode cX7_init 192 = .ok (.putfield 58, 3) := dk_181 0 58 (dk_at dksX7_init_8 2 rfl rfl)
theorem dX7_init_195 : decode cX7_init 195 = .ok (.aload_n 0, 1) := dk_42 (dk_at dksX7_init_8 5 rfl rfl)
theorem dX7_init_196 : decode cX7_init 196 = .ok (.bipush 12, 2) := dk_16 12 (dk_at dksX7_init_8 6 rfl rfl)
theorem dX7_init_198 : decode cX7_init 198 = .ok (.newarray .int, 2) := dk_188_10 (dk_at dksX7_init_8 8 rfl rfl)
theorem dX7_init_200 : decode cX7_init 200 = .ok (.putfield 61, 3) := dk_181 0 61 (dk_at dksX7_init_8 10 rfl rfl)
theorem dX7_init_203 : decode cX7_init 203 = .ok (.aload_n 0, 1) := dk_42 (dk_at dksX7_init_8 13 rfl rfl)
theorem dX7_init_204 : decode cX7_init 204 = .ok (.bipush 72, 2) := dk_16 72 (dk_at dksX7_init_8 14 rfl rfl)
theorem dX7_init_206 : decode cX7_init 206 = .ok (.newarray .int, 2) := dk_188_10 (dk_at dksX7_init_8 16 rfl rfl)
theorem dX7_init_208 : decode cX7_init 208 = .ok (.putfield 64, 3) := dk_181 0 64 (dk_at dksX7_init_8 18 rfl rfl)
theorem dX7_init_211 : decode cX7_init 211 = .ok (.aload_n 0, 1) := dk_42 (dk_at dksX7_init_8 21 rfl rfl)
theorem dX7_init_212 : decode cX7_init 212 = .ok (.sipush 128, 3) := dk_17 0 128 (dk_at dksX7_init_9 0 rfl rfl)
theorem dX7_init_215 : decode cX7_init 215 = .ok (.newarray .int, 2) := dk_188_10 (dk_at dksX7_init_9 3 rfl rfl)
theorem dX7_init_217 : decode cX7_init 217 = .ok (.putfield 67, 3) := dk_181 0 67 (dk_at dksX7_init_9 5 rfl rfl)
theorem dX7_init_220 : decode cX7_init 220 = .ok (.aload_n 0, 1) := dk_42 (dk_at dksX7_init_9 8 rfl rfl)
theorem dX7_init_221 : decode cX7_init 221 = .ok (.sipush 1200, 3) := dk_17 4 176 (dk_at dksX7_init_9 9 rfl rfl)
theorem dX7_init_224 : decode cX7_init 224 = .ok (.newarray .int, 2) := dk_188_10 (dk_at dksX7_init_9 12 rfl rfl)
theorem dX7_init_226 : decode cX7_init 226 = .ok (.putfield 70, 3) := dk_181 0 70 (dk_at dksX7_init_9 14 rfl rfl)
theorem dX7_init_229 : decode cX7_init 229 = .ok (.aload_n 0, 1) := dk_42 (dk_at dksX7_init_9 17 rfl rfl)
theorem dX7_init_230 : decode cX7_init 230 = .ok (.iconst 3, 1) := dk_6 (dk_at dksX7_init_9 18 rfl rfl)
theorem dX7_init_231 : decode cX7_init 231 = .ok (.newarray .int, 2) := dk_188_10 (dk_at dksX7_init_9 19 rfl rfl)
theorem dX7_init_233 : decode cX7_init 233 = .ok (.putfield 73, 3) := dk_181 0 73 (dk_at dksX7_init_9 21 rfl rfl)
theorem dX7_init_236 : decode cX7_init 236 = .ok (.aload_n 0, 1) := dk_42 (dk_at dksX7_init_10 0 rfl rfl)
theorem dX7_init_237 : decode cX7_init 237 = .ok (.sipush 600, 3) := dk_17 2 88 (dk_at dksX7_init_10 1 rfl rfl)
theorem dX7_init_240 : decode cX7_init 240 = .ok (.newarray .int, 2) := dk_188_10 (dk_at dksX7_init_10 4 rfl rfl)
theorem dX7_init_242 : decode cX7_init 242 = .ok (.putfield 76, 3) := dk_181 0 76 (dk_at dksX7_init_10 6 rfl rfl)
theorem dX7_init_245 : decode cX7_init 245 = .ok (.aload_n 0, 1) := dk_42 (dk_at dksX7_init_10 9 rfl rfl)
theorem dX7_init_246 : decode cX7_init 246 = .ok (.iconst (-1), 1) := dk_2 (dk_at dksX7_init_10 10 rfl rfl)
theorem dX7_init_247 : decode cX7_init 247 = .ok (.putfield 79, 3) := dk_181 0 79 (dk_at dksX7_init_10 11 rfl rfl)
theorem dX7_init_250 : decode cX7_init 250 = .ok (.aload_n 0, 1) := dk_42 (dk_at dksX7_init_10 14 rfl rfl)
theorem dX7_init_251 : decode cX7_init 251 = .ok (.bipush 6, 2) := dk_16 6 (dk_at dksX7_init_10 15 rfl rfl)
theorem dX7_init_253 : decode cX7_init 253 = .ok (.newarray .int, 2) := dk_188_10 (dk_at dksX7_init_10 17 rfl rfl)
theorem dX7_init_255 : decode cX7_init 255 = .ok (.dup, 1) := dk_89 (dk_at dksX7_init_10 19 rfl rfl)
theorem dX7_init_256 : decode cX7_init 256 = .ok (.iconst 0, 1) := dk_3 (dk_at dksX7_init_10 20 rfl rfl)
theorem dX7_init_257 : decode cX7_init 257 = .ok (.iconst (-1), 1) := dk_2 (dk_at dksX7_init_10 21 rfl rfl)
theorem dX7_init_258 : decode cX7_init 258 = .ok (.iastore, 1) := dk_79 (dk_at dksX7_init_10 22 rfl rfl)
theorem dX7_init_259 : decode cX7_init 259 = .ok (.dup, 1) := dk_89 (dk_at dksX7_init_10 23 rfl rfl)
theorem dX7_init_260 : decode cX7_init 260 = .ok (.iconst 1, 1) := dk_4 (dk_at dksX7_init_11 0 rfl rfl)
theorem dX7_init_261 : decode cX7_init 261 = .ok (.iconst (-1), 1) := dk_2 (dk_at dksX7_init_11 1 rfl rfl)
theorem dX7_init_262 : decode cX7_init 262 = .ok (.iastore, 1) := dk_79 (dk_at dksX7_init_11 2 rfl rfl)
theorem dX7_init_263 : decode cX7_init 263 = .ok (.dup, 1) := dk_89 (dk_at dksX7_init_11 3 rfl rfl)
theorem dX7_init_264 : decode cX7_init 264 = .ok (.iconst 2, 1) := dk_5 (dk_at dksX7_init_11 4 rfl rfl)
theorem dX7_init_265 : decode cX7_init 265 = .ok (.iconst (-1), 1) := dk_2 (dk_at dksX7_init_11 5 rfl rfl)
theorem dX7_init_266 : decode cX7_init 266 = .ok (.iastore, 1) := dk_79 (dk_at dksX7_init_11 6 rfl rfl)
theorem dX7_init_267 : decode cX7_init 267 = .ok (.dup, 1) := dk_89 (dk_at dksX7_init_11 7 rfl rfl)
theorem dX7_init_268 : decode cX7_init 268 = .ok (.iconst 3, 1) := dk_6 (dk_at dksX7_init_11 8 rfl rfl)
theorem dX7_init_269 : decode cX7_init 269 = .ok (.iconst (-1), 1) := dk_2 (dk_at dksX7_init_11 9 rfl rfl)
theorem dX7_init_270 : decode cX7_init 270 = .ok (.iastore, 1) := dk_79 (dk_at dksX7_init_11 10 rfl rfl)
theorem dX7_init_271 : decode cX7_init 271 = .ok (.dup, 1) := dk_89 (dk_at dksX7_init_11 11 rfl rfl)
theorem dX7_init_272 : decode cX7_init 272 = .ok (.iconst 4, 1) := dk_7 (dk_at dksX7_init_11 12 rfl rfl)
theorem dX7_init_273 : decode cX7_init 273 = .ok (.iconst (-1), 1) := dk_2 (dk_at dksX7_init_11 13 rfl rfl)
theorem dX7_init_274 : decode cX7_init 274 = .ok (.iastore, 1) := dk_79 (dk_at dksX7_init_11 14 rfl rfl)
theorem dX7_init_275 : decode cX7_init 275 = .ok (.dup, 1) := dk_89 (dk_at dksX7_init_11 15 rfl rfl)
theorem dX7_init_276 : decode cX7_init 276 = .ok (.iconst 5, 1) := dk_8 (dk_at dksX7_init_11 16 rfl rfl)
theorem dX7_init_277 : decode cX7_init 277 = .ok (.iconst (-1), 1) := dk_2 (dk_at dksX7_init_11 17 rfl rfl)
theorem dX7_init_278 : decode cX7_init 278 = .ok (.iastore, 1) := dk_79 (dk_at dksX7_init_11 18 rfl rfl)
theorem dX7_init_279 : decode cX7_init 279 = .ok (.putfield 83, 3) := dk_181 0 83 (dk_at dksX7_init_11 19 rfl rfl)
theorem dX7_init_282 : decode cX7_init 282 = .ok (.aload_n 0, 1) := dk_42 (dk_at dksX7_init_11 22 rfl rfl)
theorem dX7_init_283 : decode cX7_init 283 = .ok (.bipush 8, 2) := dk_16 8 (dk_at dksX7_init_12 0 rfl rfl)
theorem dX7_init_285 : decode cX7_init 285 = .ok (.newarray .int, 2) := dk_188_10 (dk_at dksX7_init_12 2 rfl rfl)
theorem dX7_init_287 : decode cX7_init 287 = .ok (.putfield 86, 3) := dk_181 0 86 (dk_at dksX7_init_12 4 rfl rfl)
theorem dX7_init_290 : decode cX7_init 290 = .ok (.aload_n 0, 1) := dk_42 (dk_at dksX7_init_12 7 rfl rfl)
theorem dX7_init_291 : decode cX7_init 291 = .ok (.sipush 3200, 3) := dk_17 12 128 (dk_at dksX7_init_12 8 rfl rfl)
theorem dX7_init_294 : decode cX7_init 294 = .ok (.newarray .int, 2) := dk_188_10 (dk_at dksX7_init_12 11 rfl rfl)
theorem dX7_init_296 : decode cX7_init 296 = .ok (.putfield 88, 3) := dk_181 0 88 (dk_at dksX7_init_12 13 rfl rfl)
theorem dX7_init_299 : decode cX7_init 299 = .ok (.aload_n 0, 1) := dk_42 (dk_at dksX7_init_12 16 rfl rfl)
theorem dX7_init_300 : decode cX7_init 300 = .ok (.bipush 6, 2) := dk_16 6 (dk_at dksX7_init_12 17 rfl rfl)
theorem dX7_init_302 : decode cX7_init 302 = .ok (.newarray .int, 2) := dk_188_10 (dk_at dksX7_init_12 19 rfl rfl)
theorem dX7_init_304 : decode cX7_init 304 = .ok (.putfield 91, 3) := dk_181 0 91 (dk_at dksX7_init_12 21 rfl rfl)
theorem dX7_init_307 : decode cX7_init 307 = .ok (.aload_n 0, 1) := dk_42 (dk_at dksX7_init_13 0 rfl rfl)
theorem dX7_init_308 : decode cX7_init 308 = .ok (.bipush 64, 2) := dk_16 64 (dk_at dksX7_init_13 1 rfl rfl)
theorem dX7_init_310 : decode cX7_init 310 = .ok (.newarray .int, 2) := dk_188_10 (dk_at dksX7_init_13 3 rfl rfl)
theorem dX7_init_312 : decode cX7_init 312 = .ok (.putfield 94, 3) := dk_181 0 94 (dk_at dksX7_init_13 5 rfl rfl)
theorem dX7_init_315 : decode cX7_init 315 = .ok (.aload_n 0, 1) := dk_42 (dk_at dksX7_init_13 8 rfl rfl)
theorem dX7_init_316 : decode cX7_init 316 = .ok (.bipush 6, 2) := dk_16 6 (dk_at dksX7_init_13 9 rfl rfl)
theorem dX7_init_318 : decode cX7_init 318 = .ok (.newarray .int, 2) := dk_188_10 (dk_at dksX7_init_13 11 rfl rfl)
theorem dX7_init_320 : decode cX7_init 320 = .ok (.putfield 97, 3) := dk_181 0 97 (dk_at dksX7_init_13 13 rfl rfl)
theorem dX7_init_323 : decode cX7_init 323 = .ok (.aload_n 0, 1) := dk_42 (dk_at dksX7_init_13 16 rfl rfl)
theorem dX7_init_324 : decode cX7_init 324 = .ok (.bipush 6, 2) := dk_16 6 (dk_at dksX7_init_13 17 rfl rfl)
theorem dX7_init_326 : decode cX7_init 326 = .ok (.newarray .int, 2) := dk_188_10 (dk_at dksX7_init_13 19 rfl rfl)
theorem dX7_init_328 : decode cX7_init 328 = .ok (.putfield 99, 3) := dk_181 0 99 (dk_at dksX7_init_13 21 rfl rfl)
theorem dX7_init_331 : decode cX7_init 331 = .ok (.aload_n 0, 1) := dk_42 (dk_at dksX7_init_14 0 rfl rfl)
theorem dX7_init_332 : decode cX7_init 332 = .ok (.bipush 6, 2) := dk_16 6 (dk_at dksX7_init_14 1 rfl rfl)
theorem dX7_init_334 : decode cX7_init 334 = .ok (.newarray .int, 2) := dk_188_10 (dk_at dksX7_init_14 3 rfl rfl)
theorem dX7_init_336 : decode cX7_init 336 = .ok (.putfield 102, 3) := dk_181 0 102 (dk_at dksX7_init_14 5 rfl rfl)
theorem dX7_init_339 : decode cX7_init 339 = .ok (.aload_n 0, 1) := dk_42 (dk_at dksX7_init_14 8 rfl rfl)
theorem dX7_init_340 : decode cX7_init 340 = .ok (.bipush 6, 2) := dk_16 6 (dk_at dksX7_init_14 9 rfl rfl)
theorem dX7_init_342 : decode cX7_init 342 = .ok (.newarray .int, 2) := dk_188_10 (dk_at dksX7_init_14 11 rfl rfl)
theorem dX7_init_344 : decode cX7_init 344 = .ok (.putfield 105, 3) := dk_181 0 105 (dk_at dksX7_init_14 13 rfl rfl)
theorem dX7_init_347 : decode cX7_init 347 = .ok (.aload_n 0, 1) := dk_42 (dk_at dksX7_init_14 16 rfl rfl)
theorem dX7_init_348 : decode cX7_init 348 = .ok (.bipush 6, 2) := dk_16 6 (dk_at dksX7_init_14 17 rfl rfl)
theorem dX7_init_350 : decode cX7_init 350 = .ok (.newarray .int, 2) := dk_188_10 (dk_at dksX7_init_14 19 rfl rfl)
theorem dX7_init_352 : decode cX7_init 352 = .ok (.putfield 108, 3) := dk_181 0 108 (dk_at dksX7_init_14 21 rfl rfl)
theorem dX7_init_355 : decode cX7_init 355 = .ok (.aload_n 0, 1) := dk_42 (dk_at dksX7_init_15 0 rfl rfl)
theorem dX7_init_356 : decode cX7_init 356 = .ok (.bipush 6, 2) := dk_16 6 (dk_at dksX7_init_15 1 rfl rfl)
theorem dX7_init_358 : decode cX7_init 358 = .ok (.newarray .int, 2) := dk_188_10 (dk_at dksX7_init_15 3 rfl rfl)
theorem dX7_init_360 : decode cX7_init 360 = .ok (.putfield 111, 3) := dk_181 0 111 (dk_at dksX7_init_15 5 rfl rfl)
theorem dX7_init_363 : decode cX7_init 363 = .ok (.aload_n 0, 1) := dk_42 (dk_at dksX7_init_15 8 rfl rfl)
theorem dX7_init_364 : decode cX7_init 364 = .ok (.bipush 80, 2) := dk_16 80 (dk_at dksX7_init_15 9 rfl rfl)
theorem dX7_init_366 : decode cX7_init 366 = .ok (.newarray .int, 2) := dk_188_10 (dk_at dksX7_init_15 11 rfl rfl)
theorem dX7_init_368 : decode cX7_init 368 = .ok (.putfield 114, 3) := dk_181 0 114 (dk_at dksX7_init_15 13 rfl rfl)
theorem dX7_init_371 : decode cX7_init 371 = .ok (.aload_n 0, 1) := dk_42 (dk_at dksX7_init_15 16 rfl rfl)
theorem dX7_init_372 : decode cX7_init 372 = .ok (.bipush 8, 2) := dk_16 8 (dk_at dksX7_init_15 17 rfl rfl)
theorem dX7_init_374 : decode cX7_init 374 = .ok (.newarray .int, 2) := dk_188_10 (dk_at dksX7_init_15 19 rfl rfl)
theorem dX7_init_376 : decode cX7_init 376 = .ok (.putfield 117, 3) := dk_181 0 117 (dk_at dksX7_init_15 21 rfl rfl)
theorem dX7_init_379 : decode cX7_init 379 = .ok (.aload_n 0, 1) := dk_42 (dk_at dksX7_init_16 0 rfl rfl)
theorem dX7_init_380 : decode cX7_init 380 = .ok (.bipush 6, 2) := dk_16 6 (dk_at dksX7_init_16 1 rfl rfl)
theorem dX7_init_382 : decode cX7_init 382 = .ok (.newarray .int, 2) := dk_188_10 (dk_at dksX7_init_16 3 rfl rfl)
theorem dX7_init_384 : decode cX7_init 384 = .ok (.putfield 120, 3) := dk_181 0 120 (dk_at dksX7_init_16 5 rfl rfl)
theorem dX7_init_387 : decode cX7_init 387 = .ok (.aload_n 0, 1) := dk_42 (dk_at dksX7_init_16 8 rfl rfl)
theorem dX7_init_388 : decode cX7_init 388 = .ok (.bipush 6, 2) := dk_16 6 (dk_at dksX7_init_16 9 rfl rfl)
theorem dX7_init_390 : decode cX7_init 390 = .ok (.newarray .int, 2) := dk_188_10 (dk_at dksX7_init_16 11 rfl rfl)
theorem dX7_init_392 : decode cX7_init 392 = .ok (.putfield 123, 3) := dk_181 0 123 (dk_at dksX7_init_16 13 rfl rfl)
theorem dX7_init_395 : decode cX7_init 395 = .ok (.aload_n 0, 1) := dk_42 (dk_at dksX7_init_16 16 rfl rfl)
theorem dX7_init_396 : decode cX7_init 396 = .ok (.bipush 6, 2) := dk_16 6 (dk_at dksX7_init_16 17 rfl rfl)
theorem dX7_init_398 : decode cX7_init 398 = .ok (.newarray .int, 2) := dk_188_10 (dk_at dksX7_init_16 19 rfl rfl)
theorem dX7_init_400 : decode cX7_init 400 = .ok (.putfield 126, 3) := dk_181 0 126 (dk_at dksX7_init_16 21 rfl rfl)
theorem dX7_init_403 : decode cX7_init 403 = .ok (.aload_n 0, 1) := dk_42 (dk_at dksX7_init_17 0 rfl rfl)
theorem dX7_init_404 : decode cX7_init 404 = .ok (.iconst 4, 1) := dk_7 (dk_at dksX7_init_17 1 rfl rfl)
theorem dX7_init_405 : decode cX7_init 405 = .ok (.newarray .int, 2) := dk_188_10 (dk_at dksX7_init_17 2 rfl rfl)
theorem dX7_init_407 : decode cX7_init 407 = .ok (.putfield 129, 3) := dk_181 0 129 (dk_at dksX7_init_17 4 rfl rfl)
theorem dX7_init_410 : decode cX7_init 410 = .ok (.aload_n 0, 1) := dk_42 (dk_at dksX7_init_17 7 rfl rfl)
theorem dX7_init_411 : decode cX7_init 411 = .ok (.iconst 4, 1) := dk_7 (dk_at dksX7_init_17 8 rfl rfl)
theorem dX7_init_412 : decode cX7_init 412 = .ok (.newarray .int, 2) := dk_188_10 (dk_at dksX7_init_17 9 rfl rfl)
theorem dX7_init_414 : decode cX7_init 414 = .ok (.putfield 132, 3) := dk_181 0 132 (dk_at dksX7_init_17 11 rfl rfl)
theorem dX7_init_417 : decode cX7_init 417 = .ok (.aload_n 0, 1) := dk_42 (dk_at dksX7_init_17 14 rfl rfl)
theorem dX7_init_418 : decode cX7_init 418 = .ok (.bipush 80, 2) := dk_16 80 (dk_at dksX7_init_17 15 rfl rfl)
theorem dX7_init_420 : decode cX7_init 420 = .ok (.newarray .int, 2) := dk_188_10 (dk_at dksX7_init_17 17 rfl rfl)
theorem dX7_init_422 : decode cX7_init 422 = .ok (.putfield 135, 3) := dk_181 0 135 (dk_at dksX7_init_17 19 rfl rfl)
theorem dX7_init_425 : decode cX7_init 425 = .ok (.aload_n 0, 1) := dk_42 (dk_at dksX7_init_17 22 rfl rfl)
theorem dX7_init_426 : decode cX7_init 426 = .ok (.sipush 3200, 3) := dk_17 12 128 (dk_at dksX7_init_18 0 rfl rfl)
theorem dX7_init_429 : decode cX7_init 429 = .ok (.newarray .int, 2) := dk_188_10 (dk_at dksX7_init_18 3 rfl rfl)
theorem dX7_init_431 : decode cX7_init 431 = .ok (.putfield 138, 3) := dk_181 0 138 (dk_at dksX7_init_18 5 rfl rfl)
theorem dX7_init_434 : decode cX7_init 434 = .ok (.aload_n 0, 1) := dk_42 (dk_at dksX7_init_18 8 rfl rfl)
theorem dX7_init_435 : decode cX7_init 435 = .ok (.bipush 6, 2) := dk_16 6 (dk_at dksX7_init_18 9 rfl rfl)
theorem dX7_init_437 : decode cX7_init 437 = .ok (.newarray .int, 2) := dk_188_10 (dk_at dksX7_init_18 11 rfl rfl)
theorem dX7_init_439 : decode cX7_init 439 = .ok (.putfield 141, 3) := dk_181 0 141 (dk_at dksX7_init_18 13 rfl rfl)
theorem dX7_init_442 : decode cX7_init 442 = .ok (.aload_n 0, 1) := dk_42 (dk_at dksX7_init_18 16 rfl rfl)
theorem dX7_init_443 : decode cX7_init 443 = .ok (.bipush 6, 2) := dk_16 6 (dk_at dksX7_init_18 17 rfl rfl)
theorem dX7_init_445 : decode cX7_init 445 = .ok (.newarray .int, 2) := dk_188_10 (dk_at dksX7_init_18 19 rfl rfl)
theorem dX7_init_447 : decode cX7_init 447 = .ok (.putfield 144, 3) := dk_181 0 144 (dk_at dksX7_init_18 21 rfl rfl)
theorem dX7_init_450 : decode cX7_init 450 = .ok (.aload_n 0, 1) := dk_42 (dk_at dksX7_init_19 0 rfl rfl)
theorem dX7_init_451 : decode cX7_init 451 = .ok (.bipush 6, 2) := dk_16 6 (dk_at dksX7_init_19 1 rfl rfl)
theorem dX7_init_453 : decode cX7_init 453 = .ok (.newarray .int, 2) := dk_188_10 (dk_at dksX7_init_19 3 rfl rfl)
theorem dX7_init_455 : decode cX7_init 455 = .ok (.putfield 147, 3) := dk_181 0 147 (dk_at dksX7_init_19 5 rfl rfl)
theorem dX7_init_458 : decode cX7_init 458 = .ok (.aload_n 0, 1) := dk_42 (dk_at dksX7_init_19 8 rfl rfl)
theorem dX7_init_459 : decode cX7_init 459 = .ok (.iconst 4, 1) := dk_7 (dk_at dksX7_init_19 9 rfl rfl)
theorem dX7_init_460 : decode cX7_init 460 = .ok (.newarray .int, 2) := dk_188_10 (dk_at dksX7_init_19 10 rfl rfl)
theorem dX7_init_462 : decode cX7_init 462 = .ok (.putfield 150, 3) := dk_181 0 150 (dk_at dksX7_init_19 12 rfl rfl)
theorem dX7_init_465 : decode cX7_init 465 = .ok (.aload_n 0, 1) := dk_42 (dk_at dksX7_init_19 15 rfl rfl)
theorem dX7_init_466 : decode cX7_init 466 = .ok (.iconst 4, 1) := dk_7 (dk_at dksX7_init_19 16 rfl rfl)
theorem dX7_init_467 : decode cX7_init 467 = .ok (.newarray .int, 2) := dk_188_10 (dk_at dksX7_init_19 17 rfl rfl)
theorem dX7_init_469 : decode cX7_init 469 = .ok (.putfield 153, 3) := dk_181 0 153 (dk_at dksX7_init_19 19 rfl rfl)
theorem dX7_init_472 : decode cX7_init 472 = .ok (.aload_n 0, 1) := dk_42 (dk_at dksX7_init_19 22 rfl rfl)
theorem dX7_init_473 : decode cX7_init 473 = .ok (.iconst 3, 1) := dk_6 (dk_at dksX7_init_19 23 rfl rfl)
theorem dX7_init_474 : decode cX7_init 474 = .ok (.newarray .int, 2) := dk_188_10 (dk_at dksX7_init_20 0 rfl rfl)
theorem dX7_init_476 : decode cX7_init 476 = .ok (.putfield 156, 3) := dk_181 0 156 (dk_at dksX7_init_20 2 rfl rfl)
theorem dX7_init_479 : decode cX7_init 479 = .ok (.return_, 1) := dk_177 (dk_at dksX7_init_20 5 rfl rfl)
abbrev cX7_thrown : ByteArray := prog_21_method_2_code
def yX7_thrown : MethodName := ⟨RX7, "thrown", "()I"⟩
theorem dX7_thrown_0 : decode cX7_thrown 0 = .ok (.aload_n 0, 1) := by decide +kernel
theorem dX7_thrown_1 : decode cX7_thrown 1 = .ok (.getfield 159, 3) := by decide +kernel
theorem dX7_thrown_4 : decode cX7_thrown 4 = .ok (.ireturn, 1) := by decide +kernel
abbrev cX7_feed : ByteArray := prog_21_method_10_code
def yX7_feed : MethodName := ⟨RX7, "feed", "(IIIII)I"⟩
def dkwX7_feed_5 : List UInt8 := [167, 255, 162, 42, 180, 0, 166, 172]
abbrev dktX7_feed_5 : List UInt8 := dkwX7_feed_5 ++ []
def dkwX7_feed_4 : List UInt8 := [112, 104, 100, 122, 17, 0, 255, 126, 79, 42, 89, 180, 0, 166, 4, 96, 181, 0, 166, 132, 6, 1]
abbrev dktX7_feed_4 : List UInt8 := dkwX7_feed_4 ++ dktX7_feed_5
def dkwX7_feed_3 : List UInt8 := [167, 0, 5, 21, 5, 54, 7, 42, 180, 0, 76, 42, 180, 0, 166, 21, 7, 16, 24, 16, 8, 21, 6, 7]
abbrev dktX7_feed_3 : List UInt8 := dkwX7_feed_3 ++ dktX7_feed_4
def dkwX7_feed_2 : List UInt8 := [28, 167, 0, 28, 21, 6, 16, 12, 162, 0, 7, 29, 167, 0, 17, 21, 6, 16, 16, 162, 0, 8, 21, 4]
abbrev dktX7_feed_2 : List UInt8 := dkwX7_feed_2 ++ dktX7_feed_3
def dkwX7_feed_1 : List UInt8 := [21, 6, 16, 20, 162, 0, 93, 21, 6, 7, 162, 0, 7, 27, 167, 0, 39, 21, 6, 16, 8, 162, 0, 7]
abbrev dktX7_feed_1 : List UInt8 := dkwX7_feed_1 ++ dktX7_feed_2
def dkwX7_feed_0 : List UInt8 := [42, 3, 181, 0, 159, 42, 180, 0, 166, 16, 20, 96, 17, 2, 88, 164, 0, 5, 2, 172, 3, 54, 6]
abbrev dktX7_feed_0 : List UInt8 := dkwX7_feed_0 ++ dktX7_feed_1
theorem dksX7_feed_0 : cX7_feed.data.toList.drop 0 = dktX7_feed_0 := by decide +kernel
theorem dksX7_feed_1 : cX7_feed.data.toList.drop 23 = dktX7_feed_1 := dk_seg dksX7_feed_0 23 rfl rfl
theorem dksX7_feed_2 : cX7_feed.data.toList.drop 47 = dktX7_feed_2 := dk_seg dksX7_feed_1 24 rfl rfl
theorem dksX7_feed_3 : cX7_feed.data.toList.drop 71 = dktX7_feed_3 := dk_seg dksX7_feed_2 24 rfl rfl
theorem dksX7_feed_4 : cX7_feed.data.toList.drop 95 = dktX7_feed_4 := dk_seg dksX7_feed_3 24 rfl rfl
theorem dksX7_feed_5 : cX7_feed.data.toList.drop 117 = dktX7_feed_5 := dk_seg dksX7_feed_4 22 rfl rfl
theorem dX7_feed_0 : decode cX7_feed 0 = .ok (.aload_n 0, 1) := dk_42 (dk_at dksX7_feed_0 0 rfl rfl)
theorem dX7_feed_1 : decode cX7_feed 1 = .ok (.iconst 0, 1) := dk_3 (dk_at dksX7_feed_0 1 rfl rfl)
theorem dX7_feed_2 : decode cX7_feed 2 = .ok (.putfield 159, 3) := dk_181 0 159 (dk_at dksX7_feed_0 2 rfl rfl)
theorem dX7_feed_5 : decode cX7_feed 5 = .ok (.aload_n 0, 1) := dk_42 (dk_at dksX7_feed_0 5 rfl rfl)
theorem dX7_feed_6 : decode cX7_feed 6 = .ok (.getfield 166, 3) := dk_180 0 166 (dk_at dksX7_feed_0 6 rfl rfl)
theorem dX7_feed_9 : decode cX7_feed 9 = .ok (.bipush 20, 2) := dk_16 20 (dk_at dksX7_feed_0 9 rfl rfl)
theorem dX7_feed_11 : decode cX7_feed 11 = .ok (.iadd, 1) := dk_96 (dk_at dksX7_feed_0 11 rfl rfl)
theorem dX7_feed_12 : decode cX7_feed 12 = .ok (.sipush 600, 3) := dk_17 2 88 (dk_at dksX7_feed_0 12 rfl rfl)
theorem dX7_feed_15 : decode cX7_feed 15 = .ok (.if_icmp .le 5, 3) := dk_164 0 5 (dk_at dksX7_feed_0 15 rfl rfl)
theorem dX7_feed_18 : decode cX7_feed 18 = .ok (.iconst (-1), 1) := dk_2 (dk_at dksX7_feed_0 18 rfl rfl)
theorem dX7_feed_19 : decode cX7_feed 19 = .ok (.ireturn, 1) := dk_172 (dk_at dksX7_feed_0 19 rfl rfl)
theorem dX7_feed_20 : decode cX7_feed 20 = .ok (.iconst 0, 1) := dk_3 (dk_at dksX7_feed_0 20 rfl rfl)
theorem dX7_feed_21 : decode cX7_feed 21 = .ok (.istore 6, 2) := dk_54 6 (dk_at dksX7_feed_0 21 rfl rfl)
theorem dX7_feed_23 : decode cX7_feed 23 = .ok (.iload 6, 2) := dk_21 6 (dk_at dksX7_feed_1 0 rfl rfl)
theorem dX7_feed_25 : decode cX7_feed 25 = .ok (.bipush 20, 2) := dk_16 20 (dk_at dksX7_feed_1 2 rfl rfl)
theorem dX7_feed_27 : decode cX7_feed 27 = .ok (.if_icmp .ge 93, 3) := dk_162 0 93 (dk_at dksX7_feed_1 4 rfl rfl)
theorem dX7_feed_30 : decode cX7_feed 30 = .ok (.iload 6, 2) := dk_21 6 (dk_at dksX7_feed_1 7 rfl rfl)
theorem dX7_feed_32 : decode cX7_feed 32 = .ok (.iconst 4, 1) := dk_7 (dk_at dksX7_feed_1 9 rfl rfl)
theorem dX7_feed_33 : decode cX7_feed 33 = .ok (.if_icmp .ge 7, 3) := dk_162 0 7 (dk_at dksX7_feed_1 10 rfl rfl)
theorem dX7_feed_36 : decode cX7_feed 36 = .ok (.iload_n 1, 1) := dk_27 (dk_at dksX7_feed_1 13 rfl rfl)
theorem dX7_feed_37 : decode cX7_feed 37 = .ok (.goto 39, 3) := dk_167 0 39 (dk_at dksX7_feed_1 14 rfl rfl)
theorem dX7_feed_40 : decode cX7_feed 40 = .ok (.iload 6, 2) := dk_21 6 (dk_at dksX7_feed_1 17 rfl rfl)
theorem dX7_feed_42 : decode cX7_feed 42 = .ok (.bipush 8, 2) := dk_16 8 (dk_at dksX7_feed_1 19 rfl rfl)
theorem dX7_feed_44 : decode cX7_feed 44 = .ok (.if_icmp .ge 7, 3) := dk_162 0 7 (dk_at dksX7_feed_1 21 rfl rfl)
theorem dX7_feed_47 : decode cX7_feed 47 = .ok (.iload_n 2, 1) := dk_28 (dk_at dksX7_feed_2 0 rfl rfl)
theorem dX7_feed_48 : decode cX7_feed 48 = .ok (.goto 28, 3) := dk_167 0 28 (dk_at dksX7_feed_2 1 rfl rfl)
theorem dX7_feed_51 : decode cX7_feed 51 = .ok (.iload 6, 2) := dk_21 6 (dk_at dksX7_feed_2 4 rfl rfl)
theorem dX7_feed_53 : decode cX7_feed 53 = .ok (.bipush 12, 2) := dk_16 12 (dk_at dksX7_feed_2 6 rfl rfl)
theorem dX7_feed_55 : decode cX7_feed 55 = .ok (.if_icmp .ge 7, 3) := dk_162 0 7 (dk_at dksX7_feed_2 8 rfl rfl)
theorem dX7_feed_58 : decode cX7_feed 58 = .ok (.iload_n 3, 1) := dk_29 (dk_at dksX7_feed_2 11 rfl rfl)
theorem dX7_feed_59 : decode cX7_feed 59 = .ok (.goto 17, 3) := dk_167 0 17 (dk_at dksX7_feed_2 12 rfl rfl)
theorem dX7_feed_62 : decode cX7_feed 62 = .ok (.iload 6, 2) := dk_21 6 (dk_at dksX7_feed_2 15 rfl rfl)
theorem dX7_feed_64 : decode cX7_feed 64 = .ok (.bipush 16, 2) := dk_16 16 (dk_at dksX7_feed_2 17 rfl rfl)
theorem dX7_feed_66 : decode cX7_feed 66 = .ok (.if_icmp .ge 8, 3) := dk_162 0 8 (dk_at dksX7_feed_2 19 rfl rfl)
theorem dX7_feed_69 : decode cX7_feed 69 = .ok (.iload 4, 2) := dk_21 4 (dk_at dksX7_feed_2 22 rfl rfl)
theorem dX7_feed_71 : decode cX7_feed 71 = .ok (.goto 5, 3) := dk_167 0 5 (dk_at dksX7_feed_3 0 rfl rfl)
theorem dX7_feed_74 : decode cX7_feed 74 = .ok (.iload 5, 2) := dk_21 5 (dk_at dksX7_feed_3 3 rfl rfl)
theorem dX7_feed_76 : decode cX7_feed 76 = .ok (.istore 7, 2) := dk_54 7 (dk_at dksX7_feed_3 5 rfl rfl)
theorem dX7_feed_78 : decode cX7_feed 78 = .ok (.aload_n 0, 1) := dk_42 (dk_at dksX7_feed_3 7 rfl rfl)
theorem dX7_feed_79 : decode cX7_feed 79 = .ok (.getfield 76, 3) := dk_180 0 76 (dk_at dksX7_feed_3 8 rfl rfl)
theorem dX7_feed_82 : decode cX7_feed 82 = .ok (.aload_n 0, 1) := dk_42 (dk_at dksX7_feed_3 11 rfl rfl)
theorem dX7_feed_83 : decode cX7_feed 83 = .ok (.getfield 166, 3) := dk_180 0 166 (dk_at dksX7_feed_3 12 rfl rfl)
theorem dX7_feed_86 : decode cX7_feed 86 = .ok (.iload 7, 2) := dk_21 7 (dk_at dksX7_feed_3 15 rfl rfl)
theorem dX7_feed_88 : decode cX7_feed 88 = .ok (.bipush 24, 2) := dk_16 24 (dk_at dksX7_feed_3 17 rfl rfl)
theorem dX7_feed_90 : decode cX7_feed 90 = .ok (.bipush 8, 2) := dk_16 8 (dk_at dksX7_feed_3 19 rfl rfl)
theorem dX7_feed_92 : decode cX7_feed 92 = .ok (.iload 6, 2) := dk_21 6 (dk_at dksX7_feed_3 21 rfl rfl)
theorem dX7_feed_94 : decode cX7_feed 94 = .ok (.iconst 4, 1) := dk_7 (dk_at dksX7_feed_3 23 rfl rfl)
theorem dX7_feed_95 : decode cX7_feed 95 = .ok (.irem, 1) := dk_112 (dk_at dksX7_feed_4 0 rfl rfl)
theorem dX7_feed_96 : decode cX7_feed 96 = .ok (.imul, 1) := dk_104 (dk_at dksX7_feed_4 1 rfl rfl)
theorem dX7_feed_97 : decode cX7_feed 97 = .ok (.isub, 1) := dk_100 (dk_at dksX7_feed_4 2 rfl rfl)
theorem dX7_feed_98 : decode cX7_feed 98 = .ok (.ishr, 1) := dk_122 (dk_at dksX7_feed_4 3 rfl rfl)
theorem dX7_feed_99 : decode cX7_feed 99 = .ok (.sipush 255, 3) := dk_17 0 255 (dk_at dksX7_feed_4 4 rfl rfl)
theorem dX7_feed_102 : decode cX7_feed 102 = .ok (.iand, 1) := dk_126 (dk_at dksX7_feed_4 7 rfl rfl)
theorem dX7_feed_103 : decode cX7_feed 103 = .ok (.iastore, 1) := dk_79 (dk_at dksX7_feed_4 8 rfl rfl)
theorem dX7_feed_104 : decode cX7_feed 104 = .ok (.aload_n 0, 1) := dk_42 (dk_at dksX7_feed_4 9 rfl rfl)
theorem dX7_feed_105 : decode cX7_feed 105 = .ok (.dup, 1) := dk_89 (dk_at dksX7_feed_4 10 rfl rfl)
theorem dX7_feed_106 : decode cX7_feed 106 = .ok (.getfield 166, 3) := dk_180 0 166 (dk_at dksX7_feed_4 11 rfl rfl)
theorem dX7_feed_109 : decode cX7_feed 109 = .ok (.iconst 1, 1) := dk_4 (dk_at dksX7_feed_4 14 rfl rfl)
theorem dX7_feed_110 : decode cX7_feed 110 = .ok (.iadd, 1) := dk_96 (dk_at dksX7_feed_4 15 rfl rfl)
theorem dX7_feed_111 : decode cX7_feed 111 = .ok (.putfield 166, 3) := dk_181 0 166 (dk_at dksX7_feed_4 16 rfl rfl)
theorem dX7_feed_114 : decode cX7_feed 114 = .ok (.iinc 6 1, 3) := dk_132 6 1 (dk_at dksX7_feed_4 19 rfl rfl)
theorem dX7_feed_117 : decode cX7_feed 117 = .ok (.goto (-94), 3) := dk_167 255 162 (dk_at dksX7_feed_5 0 rfl rfl)
theorem dX7_feed_120 : decode cX7_feed 120 = .ok (.aload_n 0, 1) := dk_42 (dk_at dksX7_feed_5 3 rfl rfl)
theorem dX7_feed_121 : decode cX7_feed 121 = .ok (.getfield 166, 3) := dk_180 0 166 (dk_at dksX7_feed_5 4 rfl rfl)
theorem dX7_feed_124 : decode cX7_feed 124 = .ok (.ireturn, 1) := dk_172 (dk_at dksX7_feed_5 7 rfl rfl)
abbrev cX7_town : ByteArray := prog_21_method_35_code
def yX7_town : MethodName := ⟨RX7, "town", "(I)I"⟩
def dkwX7_town_7 : List UInt8 := [92, 46, 4, 96, 79, 42, 180, 0, 207, 172, 42, 182, 1, 58, 3, 172]
abbrev dktX7_town_7 : List UInt8 := dkwX7_town_7 ++ []
def dkwX7_town_6 : List UInt8 := [61, 167, 255, 236, 42, 180, 0, 207, 153, 0, 26, 42, 42, 180, 0, 210, 181, 0, 79, 42, 180, 0, 73, 3]
abbrev dktX7_town_6 : List UInt8 := dkwX7_town_6 ++ dktX7_town_7
def dkwX7_town_5 : List UInt8 := [182, 0, 232, 3, 61, 42, 180, 0, 207, 154, 0, 19, 42, 180, 0, 181, 153, 0, 12, 42, 28, 182, 1, 55]
abbrev dktX7_town_5 : List UInt8 := dkwX7_town_5 ++ dktX7_town_6
def dkwX7_town_4 : List UInt8 := [16, 64, 162, 0, 21, 42, 180, 0, 67, 16, 64, 28, 96, 19, 1, 54, 79, 132, 2, 1, 167, 255, 235, 42]
abbrev dktX7_town_4 : List UInt8 := dkwX7_town_4 ++ dktX7_town_5
def dkwX7_town_3 : List UInt8 := [167, 0, 14, 28, 7, 160, 0, 8, 16, 12, 167, 0, 4, 3, 79, 132, 2, 1, 167, 255, 216, 3, 61, 28]
abbrev dktX7_town_3 : List UInt8 := dkwX7_town_3 ++ dktX7_town_4
def dkwX7_town_2 : List UInt8 := [3, 61, 28, 16, 6, 162, 0, 40, 42, 180, 0, 38, 16, 6, 28, 96, 28, 6, 160, 0, 9, 17, 1, 109]
abbrev dktX7_town_2 : List UInt8 := dkwX7_town_2 ++ dktX7_town_3
def dkwX7_town_1 : List UInt8 := [3, 181, 0, 166, 42, 27, 181, 0, 169, 42, 3, 181, 0, 171, 42, 3, 181, 0, 207, 42, 2, 181, 0, 79]
abbrev dktX7_town_1 : List UInt8 := dkwX7_town_1 ++ dktX7_town_2
def dkwX7_town_0 : List UInt8 := [42, 3, 181, 0, 159, 27, 155, 0, 11, 27, 42, 180, 0, 166, 164, 0, 9, 42, 4, 182, 1, 51, 172, 42]
abbrev dktX7_town_0 : List UInt8 := dkwX7_town_0 ++ dktX7_town_1
theorem dksX7_town_0 : cX7_town.data.toList.drop 0 = dktX7_town_0 := by decide +kernel
theorem dksX7_town_1 : cX7_town.data.toList.drop 24 = dktX7_town_1 := dk_seg dksX7_town_0 24 rfl rfl
theorem dksX7_town_2 : cX7_town.data.toList.drop 48 = dktX7_town_2 := dk_seg dksX7_town_1 24 rfl rfl
theorem dksX7_town_3 : cX7_town.data.toList.drop 72 = dktX7_town_3 := dk_seg dksX7_town_2 24 rfl rfl
theorem dksX7_town_4 : cX7_town.data.toList.drop 96 = dktX7_town_4 := dk_seg dksX7_town_3 24 rfl rfl
theorem dksX7_town_5 : cX7_town.data.toList.drop 120 = dktX7_town_5 := dk_seg dksX7_town_4 24 rfl rfl
theorem dksX7_town_6 : cX7_town.data.toList.drop 144 = dktX7_town_6 := dk_seg dksX7_town_5 24 rfl rfl
theorem dksX7_town_7 : cX7_town.data.toList.drop 168 = dktX7_town_7 := dk_seg dksX7_town_6 24 rfl rfl
theorem dX7_town_0 : decode cX7_town 0 = .ok (.aload_n 0, 1) := dk_42 (dk_at dksX7_town_0 0 rfl rfl)
theorem dX7_town_1 : decode cX7_town 1 = .ok (.iconst 0, 1) := dk_3 (dk_at dksX7_town_0 1 rfl rfl)
theorem dX7_town_2 : decode cX7_town 2 = .ok (.putfield 159, 3) := dk_181 0 159 (dk_at dksX7_town_0 2 rfl rfl)
theorem dX7_town_5 : decode cX7_town 5 = .ok (.iload_n 1, 1) := dk_27 (dk_at dksX7_town_0 5 rfl rfl)
theorem dX7_town_6 : decode cX7_town 6 = .ok (.ifCond .lt 11, 3) := dk_155 0 11 (dk_at dksX7_town_0 6 rfl rfl)
theorem dX7_town_9 : decode cX7_town 9 = .ok (.iload_n 1, 1) := dk_27 (dk_at dksX7_town_0 9 rfl rfl)
theorem dX7_town_10 : decode cX7_town 10 = .ok (.aload_n 0, 1) := dk_42 (dk_at dksX7_town_0 10 rfl rfl)
theorem dX7_town_11 : decode cX7_town 11 = .ok (.getfield 166, 3) := dk_180 0 166 (dk_at dksX7_town_0 11 rfl rfl)
theorem dX7_town_14 : decode cX7_town 14 = .ok (.if_icmp .le 9, 3) := dk_164 0 9 (dk_at dksX7_town_0 14 rfl rfl)
theorem dX7_town_17 : decode cX7_town 17 = .ok (.aload_n 0, 1) := dk_42 (dk_at dksX7_town_0 17 rfl rfl)
theorem dX7_town_18 : decode cX7_town 18 = .ok (.iconst 1, 1) := dk_4 (dk_at dksX7_town_0 18 rfl rfl)
theorem dX7_town_19 : decode cX7_town 19 = .ok (.invokevirtual 307, 3) := dk_182 1 51 (dk_at dksX7_town_0 19 rfl rfl)
theorem dX7_town_22 : decode cX7_town 22 = .ok (.ireturn, 1) := dk_172 (dk_at dksX7_town_0 22 rfl rfl)
theorem dX7_town_23 : decode cX7_town 23 = .ok (.aload_n 0, 1) := dk_42 (dk_at dksX7_town_0 23 rfl rfl)
theorem dX7_town_24 : decode cX7_town 24 = .ok (.iconst 0, 1) := dk_3 (dk_at dksX7_town_1 0 rfl rfl)
theorem dX7_town_25 : decode cX7_town 25 = .ok (.putfield 166, 3) := dk_181 0 166 (dk_at dksX7_town_1 1 rfl rfl)
theorem dX7_town_28 : decode cX7_town 28 = .ok (.aload_n 0, 1) := dk_42 (dk_at dksX7_town_1 4 rfl rfl)
theorem dX7_town_29 : decode cX7_town 29 = .ok (.iload_n 1, 1) := dk_27 (dk_at dksX7_town_1 5 rfl rfl)
theorem dX7_town_30 : decode cX7_town 30 = .ok (.putfield 169, 3) := dk_181 0 169 (dk_at dksX7_town_1 6 rfl rfl)
theorem dX7_town_33 : decode cX7_town 33 = .ok (.aload_n 0, 1) := dk_42 (dk_at dksX7_town_1 9 rfl rfl)
theorem dX7_town_34 : decode cX7_town 34 = .ok (.iconst 0, 1) := dk_3 (dk_at dksX7_town_1 10 rfl rfl)
theorem dX7_town_35 : decode cX7_town 35 = .ok (.putfield 171, 3) := dk_181 0 171 (dk_at dksX7_town_1 11 rfl rfl)
theorem dX7_town_38 : decode cX7_town 38 = .ok (.aload_n 0, 1) := dk_42 (dk_at dksX7_town_1 14 rfl rfl)
theorem dX7_town_39 : decode cX7_town 39 = .ok (.iconst 0, 1) := dk_3 (dk_at dksX7_town_1 15 rfl rfl)
theorem dX7_town_40 : decode cX7_town 40 = .ok (.putfield 207, 3) := dk_181 0 207 (dk_at dksX7_town_1 16 rfl rfl)
theorem dX7_town_43 : decode cX7_town 43 = .ok (.aload_n 0, 1) := dk_42 (dk_at dksX7_town_1 19 rfl rfl)
theorem dX7_town_44 : decode cX7_town 44 = .ok (.iconst (-1), 1) := dk_2 (dk_at dksX7_town_1 20 rfl rfl)
theorem dX7_town_45 : decode cX7_town 45 = .ok (.putfield 79, 3) := dk_181 0 79 (dk_at dksX7_town_1 21 rfl rfl)
theorem dX7_town_48 : decode cX7_town 48 = .ok (.iconst 0, 1) := dk_3 (dk_at dksX7_town_2 0 rfl rfl)
theorem dX7_town_49 : decode cX7_town 49 = .ok (.istore_n 2, 1) := dk_61 (dk_at dksX7_town_2 1 rfl rfl)
theorem dX7_town_50 : decode cX7_town 50 = .ok (.iload_n 2, 1) := dk_28 (dk_at dksX7_town_2 2 rfl rfl)
theorem dX7_town_51 : decode cX7_town 51 = .ok (.bipush 6, 2) := dk_16 6 (dk_at dksX7_town_2 3 rfl rfl)
theorem dX7_town_53 : decode cX7_town 53 = .ok (.if_icmp .ge 40, 3) := dk_162 0 40 (dk_at dksX7_town_2 5 rfl rfl)
theorem dX7_town_56 : decode cX7_town 56 = .ok (.aload_n 0, 1) := dk_42 (dk_at dksX7_town_2 8 rfl rfl)
theorem dX7_town_57 : decode cX7_town 57 = .ok (.getfield 38, 3) := dk_180 0 38 (dk_at dksX7_town_2 9 rfl rfl)
theorem dX7_town_60 : decode cX7_town 60 = .ok (.bipush 6, 2) := dk_16 6 (dk_at dksX7_town_2 12 rfl rfl)
theorem dX7_town_62 : decode cX7_town 62 = .ok (.iload_n 2, 1) := dk_28 (dk_at dksX7_town_2 14 rfl rfl)
theorem dX7_town_63 : decode cX7_town 63 = .ok (.iadd, 1) := dk_96 (dk_at dksX7_town_2 15 rfl rfl)
theorem dX7_town_64 : decode cX7_town 64 = .ok (.iload_n 2, 1) := dk_28 (dk_at dksX7_town_2 16 rfl rfl)
theorem dX7_town_65 : decode cX7_town 65 = .ok (.iconst 3, 1) := dk_6 (dk_at dksX7_town_2 17 rfl rfl)
theorem dX7_town_66 : decode cX7_town 66 = .ok (.if_icmp .ne 9, 3) := dk_160 0 9 (dk_at dksX7_town_2 18 rfl rfl)
theorem dX7_town_69 : decode cX7_town 69 = .ok (.sipush 365, 3) := dk_17 1 109 (dk_at dksX7_town_2 21 rfl rfl)
theorem dX7_town_72 : decode cX7_town 72 = .ok (.goto 14, 3) := dk_167 0 14 (dk_at dksX7_town_3 0 rfl rfl)
theorem dX7_town_75 : decode cX7_town 75 = .ok (.iload_n 2, 1) := dk_28 (dk_at dksX7_town_3 3 rfl rfl)
theorem dX7_town_76 : decode cX7_town 76 = .ok (.iconst 4, 1) := dk_7 (dk_at dksX7_town_3 4 rfl rfl)
theorem dX7_town_77 : decode cX7_town 77 = .ok (.if_icmp .ne 8, 3) := dk_160 0 8 (dk_at dksX7_town_3 5 rfl rfl)
theorem dX7_town_80 : decode cX7_town 80 = .ok (.bipush 12, 2) := dk_16 12 (dk_at dksX7_town_3 8 rfl rfl)
theorem dX7_town_82 : decode cX7_town 82 = .ok (.goto 4, 3) := dk_167 0 4 (dk_at dksX7_town_3 10 rfl rfl)
theorem dX7_town_85 : decode cX7_town 85 = .ok (.iconst 0, 1) := dk_3 (dk_at dksX7_town_3 13 rfl rfl)
theorem dX7_town_86 : decode cX7_town 86 = .ok (.iastore, 1) := dk_79 (dk_at dksX7_town_3 14 rfl rfl)
theorem dX7_town_87 : decode cX7_town 87 = .ok (.iinc 2 1, 3) := dk_132 2 1 (dk_at dksX7_town_3 15 rfl rfl)
theorem dX7_town_90 : decode cX7_town 90 = .ok (.goto (-40), 3) := dk_167 255 216 (dk_at dksX7_town_3 18 rfl rfl)
theorem dX7_town_93 : decode cX7_town 93 = .ok (.iconst 0, 1) := dk_3 (dk_at dksX7_town_3 21 rfl rfl)
theorem dX7_town_94 : decode cX7_town 94 = .ok (.istore_n 2, 1) := dk_61 (dk_at dksX7_town_3 22 rfl rfl)
theorem dX7_town_95 : decode cX7_town 95 = .ok (.iload_n 2, 1) := dk_28 (dk_at dksX7_town_3 23 rfl rfl)
theorem dX7_town_96 : decode cX7_town 96 = .ok (.bipush 64, 2) := dk_16 64 (dk_at dksX7_town_4 0 rfl rfl)
theorem dX7_town_98 : decode cX7_town 98 = .ok (.if_icmp .ge 21, 3) := dk_162 0 21 (dk_at dksX7_town_4 2 rfl rfl)
theorem dX7_town_101 : decode cX7_town 101 = .ok (.aload_n 0, 1) := dk_42 (dk_at dksX7_town_4 5 rfl rfl)
theorem dX7_town_102 : decode cX7_town 102 = .ok (.getfield 67, 3) := dk_180 0 67 (dk_at dksX7_town_4 6 rfl rfl)
theorem dX7_town_105 : decode cX7_town 105 = .ok (.bipush 64, 2) := dk_16 64 (dk_at dksX7_town_4 9 rfl rfl)
theorem dX7_town_107 : decode cX7_town 107 = .ok (.iload_n 2, 1) := dk_28 (dk_at dksX7_town_4 11 rfl rfl)
theorem dX7_town_108 : decode cX7_town 108 = .ok (.iadd, 1) := dk_96 (dk_at dksX7_town_4 12 rfl rfl)
theorem dX7_town_109 : decode cX7_town 109 = .ok (.ldc_w 310, 3) := dk_19 1 54 (dk_at dksX7_town_4 13 rfl rfl)
theorem dX7_town_112 : decode cX7_town 112 = .ok (.iastore, 1) := dk_79 (dk_at dksX7_town_4 16 rfl rfl)
theorem dX7_town_113 : decode cX7_town 113 = .ok (.iinc 2 1, 3) := dk_132 2 1 (dk_at dksX7_town_4 17 rfl rfl)
theorem dX7_town_116 : decode cX7_town 116 = .ok (.goto (-21), 3) := dk_167 255 235 (dk_at dksX7_town_4 20 rfl rfl)
theorem dX7_town_119 : decode cX7_town 119 = .ok (.aload_n 0, 1) := dk_42 (dk_at dksX7_town_4 23 rfl rfl)
theorem dX7_town_120 : decode cX7_town 120 = .ok (.invokevirtual 232, 3) := dk_182 0 232 (dk_at dksX7_town_5 0 rfl rfl)
theorem dX7_town_123 : decode cX7_town 123 = .ok (.iconst 0, 1) := dk_3 (dk_at dksX7_town_5 3 rfl rfl)
theorem dX7_town_124 : decode cX7_town 124 = .ok (.istore_n 2, 1) := dk_61 (dk_at dksX7_town_5 4 rfl rfl)
theorem dX7_town_125 : decode cX7_town 125 = .ok (.aload_n 0, 1) := dk_42 (dk_at dksX7_town_5 5 rfl rfl)
theorem dX7_town_126 : decode cX7_town 126 = .ok (.getfield 207, 3) := dk_180 0 207 (dk_at dksX7_town_5 6 rfl rfl)
theorem dX7_town_129 : decode cX7_town 129 = .ok (.ifCond .ne 19, 3) := dk_154 0 19 (dk_at dksX7_town_5 9 rfl rfl)
theorem dX7_town_132 : decode cX7_town 132 = .ok (.aload_n 0, 1) := dk_42 (dk_at dksX7_town_5 12 rfl rfl)
theorem dX7_town_133 : decode cX7_town 133 = .ok (.getfield 181, 3) := dk_180 0 181 (dk_at dksX7_town_5 13 rfl rfl)
theorem dX7_town_136 : decode cX7_town 136 = .ok (.ifCond .eq 12, 3) := dk_153 0 12 (dk_at dksX7_town_5 16 rfl rfl)
theorem dX7_town_139 : decode cX7_town 139 = .ok (.aload_n 0, 1) := dk_42 (dk_at dksX7_town_5 19 rfl rfl)
theorem dX7_town_140 : decode cX7_town 140 = .ok (.iload_n 2, 1) := dk_28 (dk_at dksX7_town_5 20 rfl rfl)
theorem dX7_town_141 : decode cX7_town 141 = .ok (.invokevirtual 311, 3) := dk_182 1 55 (dk_at dksX7_town_5 21 rfl rfl)
theorem dX7_town_144 : decode cX7_town 144 = .ok (.istore_n 2, 1) := dk_61 (dk_at dksX7_town_6 0 rfl rfl)
theorem dX7_town_145 : decode cX7_town 145 = .ok (.goto (-20), 3) := dk_167 255 236 (dk_at dksX7_town_6 1 rfl rfl)
theorem dX7_town_148 : decode cX7_town 148 = .ok (.aload_n 0, 1) := dk_42 (dk_at dksX7_town_6 4 rfl rfl)
theorem dX7_town_149 : decode cX7_town 149 = .ok (.getfield 207, 3) := dk_180 0 207 (dk_at dksX7_town_6 5 rfl rfl)
theorem dX7_town_152 : decode cX7_town 152 = .ok (.ifCond .eq 26, 3) := dk_153 0 26 (dk_at dksX7_town_6 8 rfl rfl)
theorem dX7_town_155 : decode cX7_town 155 = .ok (.aload_n 0, 1) := dk_42 (dk_at dksX7_town_6 11 rfl rfl)
theorem dX7_town_156 : decode cX7_town 156 = .ok (.aload_n 0, 1) := dk_42 (dk_at dksX7_town_6 12 rfl rfl)
theorem dX7_town_157 : decode cX7_town 157 = .ok (.getfield 210, 3) := dk_180 0 210 (dk_at dksX7_town_6 13 rfl rfl)
theorem dX7_town_160 : decode cX7_town 160 = .ok (.putfield 79, 3) := dk_181 0 79 (dk_at dksX7_town_6 16 rfl rfl)
theorem dX7_town_163 : decode cX7_town 163 = .ok (.aload_n 0, 1) := dk_42 (dk_at dksX7_town_6 19 rfl rfl)
theorem dX7_town_164 : decode cX7_town 164 = .ok (.getfield 73, 3) := dk_180 0 73 (dk_at dksX7_town_6 20 rfl rfl)
theorem dX7_town_167 : decode cX7_town 167 = .ok (.iconst 0, 1) := dk_3 (dk_at dksX7_town_6 23 rfl rfl)
theorem dX7_town_168 : decode cX7_town 168 = .ok (.dup2, 1) := dk_92 (dk_at dksX7_town_7 0 rfl rfl)
theorem dX7_town_169 : decode cX7_town 169 = .ok (.iaload, 1) := dk_46 (dk_at dksX7_town_7 1 rfl rfl)
theorem dX7_town_170 : decode cX7_town 170 = .ok (.iconst 1, 1) := dk_4 (dk_at dksX7_town_7 2 rfl rfl)
theorem dX7_town_171 : decode cX7_town 171 = .ok (.iadd, 1) := dk_96 (dk_at dksX7_town_7 3 rfl rfl)
theorem dX7_town_172 : decode cX7_town 172 = .ok (.iastore, 1) := dk_79 (dk_at dksX7_town_7 4 rfl rfl)
theorem dX7_town_173 : decode cX7_town 173 = .ok (.aload_n 0, 1) := dk_42 (dk_at dksX7_town_7 5 rfl rfl)
theorem dX7_town_174 : decode cX7_town 174 = .ok (.getfield 207, 3) := dk_180 0 207 (dk_at dksX7_town_7 6 rfl rfl)
theorem dX7_town_177 : decode cX7_town 177 = .ok (.ireturn, 1) := dk_172 (dk_at dksX7_town_7 9 rfl rfl)
theorem dX7_town_178 : decode cX7_town 178 = .ok (.aload_n 0, 1) := dk_42 (dk_at dksX7_town_7 10 rfl rfl)
theorem dX7_town_179 : decode cX7_town 179 = .ok (.invokevirtual 314, 3) := dk_182 1 58 (dk_at dksX7_town_7 11 rfl rfl)
theorem dX7_town_182 : decode cX7_town 182 = .ok (.iconst 0, 1) := dk_3 (dk_at dksX7_town_7 14 rfl rfl)
theorem dX7_town_183 : decode cX7_town 183 = .ok (.ireturn, 1) := dk_172 (dk_at dksX7_town_7 15 rfl rfl)
abbrev cX7_fail : ByteArray := prog_21_method_3_code
def yX7_fail : MethodName := ⟨RX7, "fail", "(I)I"⟩
def dkwX7_fail_0 : List UInt8 := [42, 27, 181, 0, 159, 3, 172]
abbrev dktX7_fail_0 : List UInt8 := dkwX7_fail_0 ++ []
theorem dksX7_fail_0 : cX7_fail.data.toList.drop 0 = dktX7_fail_0 := by decide +kernel
theorem dX7_fail_0 : decode cX7_fail 0 = .ok (.aload_n 0, 1) := dk_42 (dk_at dksX7_fail_0 0 rfl rfl)
theorem dX7_fail_1 : decode cX7_fail 1 = .ok (.iload_n 1, 1) := dk_27 (dk_at dksX7_fail_0 1 rfl rfl)
theorem dX7_fail_2 : decode cX7_fail 2 = .ok (.putfield 159, 3) := dk_181 0 159 (dk_at dksX7_fail_0 2 rfl rfl)
theorem dX7_fail_5 : decode cX7_fail 5 = .ok (.iconst 0, 1) := dk_3 (dk_at dksX7_fail_0 5 rfl rfl)
theorem dX7_fail_6 : decode cX7_fail 6 = .ok (.ireturn, 1) := dk_172 (dk_at dksX7_fail_0 6 rfl rfl)
abbrev cX7_stepOn : ByteArray := prog_21_method_15_code
def yX7_stepOn : MethodName := ⟨RX7, "stepOn", "()V"⟩
def dkwX7_stepOn_9 : List UInt8 := [181, 0, 181, 42, 42, 180, 0, 171, 181, 0, 204, 177]
abbrev dktX7_stepOn_9 : List UInt8 := dkwX7_stepOn_9 ++ []
def dkwX7_stepOn_8 : List UInt8 := [42, 89, 180, 0, 171, 4, 96, 181, 0, 171, 42, 27, 184, 0, 201, 153, 0, 7, 6, 167, 0, 4, 7]
abbrev dktX7_stepOn_8 : List UInt8 := dkwX7_stepOn_8 ++ dktX7_stepOn_9
def dkwX7_stepOn_7 : List UInt8 := [181, 0, 191, 42, 89, 180, 0, 171, 4, 96, 181, 0, 171, 167, 255, 204, 42, 5, 181, 0, 181, 167, 0, 29]
abbrev dktX7_stepOn_7 : List UInt8 := dkwX7_stepOn_7 ++ dktX7_stepOn_8
def dkwX7_stepOn_6 : List UInt8 := [18, 194, 16, 10, 42, 180, 0, 191, 104, 42, 42, 180, 0, 171, 182, 0, 174, 96, 16, 48, 100, 184, 0, 195]
abbrev dktX7_stepOn_6 : List UInt8 := dkwX7_stepOn_6 ++ dktX7_stepOn_7
def dkwX7_stepOn_5 : List UInt8 := [153, 0, 71, 42, 3, 181, 0, 191, 42, 42, 180, 0, 171, 182, 0, 174, 184, 0, 188, 153, 0, 44, 42]
abbrev dktX7_stepOn_5 : List UInt8 := dkwX7_stepOn_5 ++ dktX7_stepOn_6
def dkwX7_stepOn_4 : List UInt8 := [180, 0, 171, 4, 96, 181, 0, 171, 167, 255, 232, 42, 4, 181, 0, 181, 167, 0, 104, 27, 184, 0, 188]
abbrev dktX7_stepOn_4 : List UInt8 := dkwX7_stepOn_4 ++ dktX7_stepOn_5
def dkwX7_stepOn_3 : List UInt8 := [184, 0, 184, 153, 0, 38, 42, 42, 180, 0, 171, 182, 0, 174, 184, 0, 184, 153, 0, 16, 42, 89]
abbrev dktX7_stepOn_3 : List UInt8 := dkwX7_stepOn_3 ++ dktX7_stepOn_4
def dkwX7_stepOn_2 : List UInt8 := [42, 42, 180, 0, 171, 182, 0, 174, 60, 27, 2, 160, 0, 11, 42, 3, 181, 0, 181, 167, 0, 146, 27]
abbrev dktX7_stepOn_2 : List UInt8 := dkwX7_stepOn_2 ++ dktX7_stepOn_3
def dkwX7_stepOn_1 : List UInt8 := [160, 0, 16, 42, 89, 180, 0, 171, 4, 96, 181, 0, 171, 167, 255, 220, 42, 42, 180, 0, 171, 181, 0, 178]
abbrev dktX7_stepOn_1 : List UInt8 := dkwX7_stepOn_1 ++ dktX7_stepOn_2
def dkwX7_stepOn_0 : List UInt8 := [42, 42, 180, 0, 171, 182, 0, 174, 16, 32, 159, 0, 16, 42, 42, 180, 0, 171, 182, 0, 174, 16, 10]
abbrev dktX7_stepOn_0 : List UInt8 := dkwX7_stepOn_0 ++ dktX7_stepOn_1
theorem dksX7_stepOn_0 : cX7_stepOn.data.toList.drop 0 = dktX7_stepOn_0 := by decide +kernel
theorem dksX7_stepOn_1 : cX7_stepOn.data.toList.drop 23 = dktX7_stepOn_1 := dk_seg dksX7_stepOn_0 23 rfl rfl
theorem dksX7_stepOn_2 : cX7_stepOn.data.toList.drop 47 = dktX7_stepOn_2 := dk_seg dksX7_stepOn_1 24 rfl rfl
theorem dksX7_stepOn_3 : cX7_stepOn.data.toList.drop 70 = dktX7_stepOn_3 := dk_seg dksX7_stepOn_2 23 rfl rfl
theorem dksX7_stepOn_4 : cX7_stepOn.data.toList.drop 92 = dktX7_stepOn_4 := dk_seg dksX7_stepOn_3 22 rfl rfl
theorem dksX7_stepOn_5 : cX7_stepOn.data.toList.drop 115 = dktX7_stepOn_5 := dk_seg dksX7_stepOn_4 23 rfl rfl
theorem dksX7_stepOn_6 : cX7_stepOn.data.toList.drop 138 = dktX7_stepOn_6 := dk_seg dksX7_stepOn_5 23 rfl rfl
theorem dksX7_stepOn_7 : cX7_stepOn.data.toList.drop 162 = dktX7_stepOn_7 := dk_seg dksX7_stepOn_6 24 rfl rfl
theorem dksX7_stepOn_8 : cX7_stepOn.data.toList.drop 186 = dktX7_stepOn_8 := dk_seg dksX7_stepOn_7 24 rfl rfl
theorem dksX7_stepOn_9 : cX7_stepOn.data.toList.drop 209 = dktX7_stepOn_9 := dk_seg dksX7_stepOn_8 23 rfl rfl
theorem dX7_stepOn_0 : decode cX7_stepOn 0 = .ok (.aload_n 0, 1) := dk_42 (dk_at dksX7_stepOn_0 0 rfl rfl)
theorem dX7_stepOn_1 : decode cX7_stepOn 1 = .ok (.aload_n 0, 1) := dk_42 (dk_at dksX7_stepOn_0 1 rfl rfl)
theorem dX7_stepOn_2 : decode cX7_stepOn 2 = .ok (.getfield 171, 3) := dk_180 0 171 (dk_at dksX7_stepOn_0 2 rfl rfl)
theorem dX7_stepOn_5 : decode cX7_stepOn 5 = .ok (.invokevirtual 174, 3) := dk_182 0 174 (dk_at dksX7_stepOn_0 5 rfl rfl)
theorem dX7_stepOn_8 : decode cX7_stepOn 8 = .ok (.bipush 32, 2) := dk_16 32 (dk_at dksX7_stepOn_0 8 rfl rfl)
theorem dX7_stepOn_10 : decode cX7_stepOn 10 = .ok (.if_icmp .eq 16, 3) := dk_159 0 16 (dk_at dksX7_stepOn_0 10 rfl rfl)
theorem dX7_stepOn_13 : decode cX7_stepOn 13 = .ok (.aload_n 0, 1) := dk_42 (dk_at dksX7_stepOn_0 13 rfl rfl)
theorem dX7_stepOn_14 : decode cX7_stepOn 14 = .ok (.aload_n 0, 1) := dk_42 (dk_at dksX7_stepOn_0 14 rfl rfl)
theorem dX7_stepOn_15 : decode cX7_stepOn 15 = .ok (.getfield 171, 3) := dk_180 0 171 (dk_at dksX7_stepOn_0 15 rfl rfl)
theorem dX7_stepOn_18 : decode cX7_stepOn 18 = .ok (.invokevirtual 174, 3) := dk_182 0 174 (dk_at dksX7_stepOn_0 18 rfl rfl)
theorem dX7_stepOn_21 : decode cX7_stepOn 21 = .ok (.bipush 10, 2) := dk_16 10 (dk_at dksX7_stepOn_0 21 rfl rfl)
theorem dX7_stepOn_23 : decode cX7_stepOn 23 = .ok (.if_icmp .ne 16, 3) := dk_160 0 16 (dk_at dksX7_stepOn_1 0 rfl rfl)
theorem dX7_stepOn_26 : decode cX7_stepOn 26 = .ok (.aload_n 0, 1) := dk_42 (dk_at dksX7_stepOn_1 3 rfl rfl)
theorem dX7_stepOn_27 : decode cX7_stepOn 27 = .ok (.dup, 1) := dk_89 (dk_at dksX7_stepOn_1 4 rfl rfl)
theorem dX7_stepOn_28 : decode cX7_stepOn 28 = .ok (.getfield 171, 3) := dk_180 0 171 (dk_at dksX7_stepOn_1 5 rfl rfl)
theorem dX7_stepOn_31 : decode cX7_stepOn 31 = .ok (.iconst 1, 1) := dk_4 (dk_at dksX7_stepOn_1 8 rfl rfl)
theorem dX7_stepOn_32 : decode cX7_stepOn 32 = .ok (.iadd, 1) := dk_96 (dk_at dksX7_stepOn_1 9 rfl rfl)
theorem dX7_stepOn_33 : decode cX7_stepOn 33 = .ok (.putfield 171, 3) := dk_181 0 171 (dk_at dksX7_stepOn_1 10 rfl rfl)
theorem dX7_stepOn_36 : decode cX7_stepOn 36 = .ok (.goto (-36), 3) := dk_167 255 220 (dk_at dksX7_stepOn_1 13 rfl rfl)
theorem dX7_stepOn_39 : decode cX7_stepOn 39 = .ok (.aload_n 0, 1) := dk_42 (dk_at dksX7_stepOn_1 16 rfl rfl)
theorem dX7_stepOn_40 : decode cX7_stepOn 40 = .ok (.aload_n 0, 1) := dk_42 (dk_at dksX7_stepOn_1 17 rfl rfl)
theorem dX7_stepOn_41 : decode cX7_stepOn 41 = .ok (.getfield 171, 3) := dk_180 0 171 (dk_at dksX7_stepOn_1 18 rfl rfl)
theorem dX7_stepOn_44 : decode cX7_stepOn 44 = .ok (.putfield 178, 3) := dk_181 0 178 (dk_at dksX7_stepOn_1 21 rfl rfl)
theorem dX7_stepOn_47 : decode cX7_stepOn 47 = .ok (.aload_n 0, 1) := dk_42 (dk_at dksX7_stepOn_2 0 rfl rfl)
theorem dX7_stepOn_48 : decode cX7_stepOn 48 = .ok (.aload_n 0, 1) := dk_42 (dk_at dksX7_stepOn_2 1 rfl rfl)
theorem dX7_stepOn_49 : decode cX7_stepOn 49 = .ok (.getfield 171, 3) := dk_180 0 171 (dk_at dksX7_stepOn_2 2 rfl rfl)
theorem dX7_stepOn_52 : decode cX7_stepOn 52 = .ok (.invokevirtual 174, 3) := dk_182 0 174 (dk_at dksX7_stepOn_2 5 rfl rfl)
theorem dX7_stepOn_55 : decode cX7_stepOn 55 = .ok (.istore_n 1, 1) := dk_60 (dk_at dksX7_stepOn_2 8 rfl rfl)
theorem dX7_stepOn_56 : decode cX7_stepOn 56 = .ok (.iload_n 1, 1) := dk_27 (dk_at dksX7_stepOn_2 9 rfl rfl)
theorem dX7_stepOn_57 : decode cX7_stepOn 57 = .ok (.iconst (-1), 1) := dk_2 (dk_at dksX7_stepOn_2 10 rfl rfl)
theorem dX7_stepOn_58 : decode cX7_stepOn 58 = .ok (.if_icmp .ne 11, 3) := dk_160 0 11 (dk_at dksX7_stepOn_2 11 rfl rfl)
theorem dX7_stepOn_61 : decode cX7_stepOn 61 = .ok (.aload_n 0, 1) := dk_42 (dk_at dksX7_stepOn_2 14 rfl rfl)
theorem dX7_stepOn_62 : decode cX7_stepOn 62 = .ok (.iconst 0, 1) := dk_3 (dk_at dksX7_stepOn_2 15 rfl rfl)
theorem dX7_stepOn_63 : decode cX7_stepOn 63 = .ok (.putfield 181, 3) := dk_181 0 181 (dk_at dksX7_stepOn_2 16 rfl rfl)
theorem dX7_stepOn_66 : decode cX7_stepOn 66 = .ok (.goto 146, 3) := dk_167 0 146 (dk_at dksX7_stepOn_2 19 rfl rfl)
theorem dX7_stepOn_69 : decode cX7_stepOn 69 = .ok (.iload_n 1, 1) := dk_27 (dk_at dksX7_stepOn_2 22 rfl rfl)
theorem dX7_stepOn_70 : decode cX7_stepOn 70 = .ok (.invokestatic 184, 3) := dk_184 0 184 (dk_at dksX7_stepOn_3 0 rfl rfl)
theorem dX7_stepOn_73 : decode cX7_stepOn 73 = .ok (.ifCond .eq 38, 3) := dk_153 0 38 (dk_at dksX7_stepOn_3 3 rfl rfl)
theorem dX7_stepOn_76 : decode cX7_stepOn 76 = .ok (.aload_n 0, 1) := dk_42 (dk_at dksX7_stepOn_3 6 rfl rfl)
theorem dX7_stepOn_77 : decode cX7_stepOn 77 = .ok (.aload_n 0, 1) := dk_42 (dk_at dksX7_stepOn_3 7 rfl rfl)
theorem dX7_stepOn_78 : decode cX7_stepOn 78 = .ok (.getfield 171, 3) := dk_180 0 171 (dk_at dksX7_stepOn_3 8 rfl rfl)
theorem dX7_stepOn_81 : decode cX7_stepOn 81 = .ok (.invokevirtual 174, 3) := dk_182 0 174 (dk_at dksX7_stepOn_3 11 rfl rfl)
theorem dX7_stepOn_84 : decode cX7_stepOn 84 = .ok (.invokestatic 184, 3) := dk_184 0 184 (dk_at dksX7_stepOn_3 14 rfl rfl)
theorem dX7_stepOn_87 : decode cX7_stepOn 87 = .ok (.ifCond .eq 16, 3) := dk_153 0 16 (dk_at dksX7_stepOn_3 17 rfl rfl)
theorem dX7_stepOn_90 : decode cX7_stepOn 90 = .ok (.aload_n 0, 1) := dk_42 (dk_at dksX7_stepOn_3 20 rfl rfl)
theorem dX7_stepOn_91 : decode cX7_stepOn 91 = .ok (.dup, 1) := dk_89 (dk_at dksX7_stepOn_3 21 rfl rfl)
theorem dX7_stepOn_92 : decode cX7_stepOn 92 = .ok (.getfield 171, 3) := dk_180 0 171 (dk_at dksX7_stepOn_4 0 rfl rfl)
theorem dX7_stepOn_95 : decode cX7_stepOn 95 = .ok (.iconst 1, 1) := dk_4 (dk_at dksX7_stepOn_4 3 rfl rfl)
theorem dX7_stepOn_96 : decode cX7_stepOn 96 = .ok (.iadd, 1) := dk_96 (dk_at dksX7_stepOn_4 4 rfl rfl)
theorem dX7_stepOn_97 : decode cX7_stepOn 97 = .ok (.putfield 171, 3) := dk_181 0 171 (dk_at dksX7_stepOn_4 5 rfl rfl)
theorem dX7_stepOn_100 : decode cX7_stepOn 100 = .ok (.goto (-24), 3) := dk_167 255 232 (dk_at dksX7_stepOn_4 8 rfl rfl)
theorem dX7_stepOn_103 : decode cX7_stepOn 103 = .ok (.aload_n 0, 1) := dk_42 (dk_at dksX7_stepOn_4 11 rfl rfl)
theorem dX7_stepOn_104 : decode cX7_stepOn 104 = .ok (.iconst 1, 1) := dk_4 (dk_at dksX7_stepOn_4 12 rfl rfl)
theorem dX7_stepOn_105 : decode cX7_stepOn 105 = .ok (.putfield 181, 3) := dk_181 0 181 (dk_at dksX7_stepOn_4 13 rfl rfl)
theorem dX7_stepOn_108 : decode cX7_stepOn 108 = .ok (.goto 104, 3) := dk_167 0 104 (dk_at dksX7_stepOn_4 16 rfl rfl)
theorem dX7_stepOn_111 : decode cX7_stepOn 111 = .ok (.iload_n 1, 1) := dk_27 (dk_at dksX7_stepOn_4 19 rfl rfl)
theorem dX7_stepOn_112 : decode cX7_stepOn 112 = .ok (.invokestatic 188, 3) := dk_184 0 188 (dk_at dksX7_stepOn_4 20 rfl rfl)
theorem dX7_stepOn_115 : decode cX7_stepOn 115 = .ok (.ifCond .eq 71, 3) := dk_153 0 71 (dk_at dksX7_stepOn_5 0 rfl rfl)
theorem dX7_stepOn_118 : decode cX7_stepOn 118 = .ok (.aload_n 0, 1) := dk_42 (dk_at dksX7_stepOn_5 3 rfl rfl)
theorem dX7_stepOn_119 : decode cX7_stepOn 119 = .ok (.iconst 0, 1) := dk_3 (dk_at dksX7_stepOn_5 4 rfl rfl)
theorem dX7_stepOn_120 : decode cX7_stepOn 120 = .ok (.putfield 191, 3) := dk_181 0 191 (dk_at dksX7_stepOn_5 5 rfl rfl)
theorem dX7_stepOn_123 : decode cX7_stepOn 123 = .ok (.aload_n 0, 1) := dk_42 (dk_at dksX7_stepOn_5 8 rfl rfl)
theorem dX7_stepOn_124 : decode cX7_stepOn 124 = .ok (.aload_n 0, 1) := dk_42 (dk_at dksX7_stepOn_5 9 rfl rfl)
theorem dX7_stepOn_125 : decode cX7_stepOn 125 = .ok (.getfield 171, 3) := dk_180 0 171 (dk_at dksX7_stepOn_5 10 rfl rfl)
theorem dX7_stepOn_128 : decode cX7_stepOn 128 = .ok (.invokevirtual 174, 3) := dk_182 0 174 (dk_at dksX7_stepOn_5 13 rfl rfl)
theorem dX7_stepOn_131 : decode cX7_stepOn 131 = .ok (.invokestatic 188, 3) := dk_184 0 188 (dk_at dksX7_stepOn_5 16 rfl rfl)
theorem dX7_stepOn_134 : decode cX7_stepOn 134 = .ok (.ifCond .eq 44, 3) := dk_153 0 44 (dk_at dksX7_stepOn_5 19 rfl rfl)
theorem dX7_stepOn_137 : decode cX7_stepOn 137 = .ok (.aload_n 0, 1) := dk_42 (dk_at dksX7_stepOn_5 22 rfl rfl)
theorem dX7_stepOn_138 : decode cX7_stepOn 138 = .ok (.ldc 194, 2) := dk_18 194 (dk_at dksX7_stepOn_6 0 rfl rfl)
theorem dX7_stepOn_140 : decode cX7_stepOn 140 = .ok (.bipush 10, 2) := dk_16 10 (dk_at dksX7_stepOn_6 2 rfl rfl)
theorem dX7_stepOn_142 : decode cX7_stepOn 142 = .ok (.aload_n 0, 1) := dk_42 (dk_at dksX7_stepOn_6 4 rfl rfl)
theorem dX7_stepOn_143 : decode cX7_stepOn 143 = .ok (.getfield 191, 3) := dk_180 0 191 (dk_at dksX7_stepOn_6 5 rfl rfl)
theorem dX7_stepOn_146 : decode cX7_stepOn 146 = .ok (.imul, 1) := dk_104 (dk_at dksX7_stepOn_6 8 rfl rfl)
theorem dX7_stepOn_147 : decode cX7_stepOn 147 = .ok (.aload_n 0, 1) := dk_42 (dk_at dksX7_stepOn_6 9 rfl rfl)
theorem dX7_stepOn_148 : decode cX7_stepOn 148 = .ok (.aload_n 0, 1) := dk_42 (dk_at dksX7_stepOn_6 10 rfl rfl)
theorem dX7_stepOn_149 : decode cX7_stepOn 149 = .ok (.getfield 171, 3) := dk_180 0 171 (dk_at dksX7_stepOn_6 11 rfl rfl)
theorem dX7_stepOn_152 : decode cX7_stepOn 152 = .ok (.invokevirtual 174, 3) := dk_182 0 174 (dk_at dksX7_stepOn_6 14 rfl rfl)
theorem dX7_stepOn_155 : decode cX7_stepOn 155 = .ok (.iadd, 1) := dk_96 (dk_at dksX7_stepOn_6 17 rfl rfl)
theorem dX7_stepOn_156 : decode cX7_stepOn 156 = .ok (.bipush 48, 2) := dk_16 48 (dk_at dksX7_stepOn_6 18 rfl rfl)
theorem dX7_stepOn_158 : decode cX7_stepOn 158 = .ok (.isub, 1) := dk_100 (dk_at dksX7_stepOn_6 20 rfl rfl)
theorem dX7_stepOn_159 : decode cX7_stepOn 159 = .ok (.invokestatic 195, 3) := dk_184 0 195 (dk_at dksX7_stepOn_6 21 rfl rfl)
theorem dX7_stepOn_162 : decode cX7_stepOn 162 = .ok (.putfield 191, 3) := dk_181 0 191 (dk_at dksX7_stepOn_7 0 rfl rfl)
theorem dX7_stepOn_165 : decode cX7_stepOn 165 = .ok (.aload_n 0, 1) := dk_42 (dk_at dksX7_stepOn_7 3 rfl rfl)
theorem dX7_stepOn_166 : decode cX7_stepOn 166 = .ok (.dup, 1) := dk_89 (dk_at dksX7_stepOn_7 4 rfl rfl)
theorem dX7_stepOn_167 : decode cX7_stepOn 167 = .ok (.getfield 171, 3) := dk_180 0 171 (dk_at dksX7_stepOn_7 5 rfl rfl)
theorem dX7_stepOn_170 : decode cX7_stepOn 170 = .ok (.iconst 1, 1) := dk_4 (dk_at dksX7_stepOn_7 8 rfl rfl)
theorem dX7_stepOn_171 : decode cX7_stepOn 171 = .ok (.iadd, 1) := dk_96 (dk_at dksX7_stepOn_7 9 rfl rfl)
theorem dX7_stepOn_172 : decode cX7_stepOn 172 = .ok (.putfield 171, 3) := dk_181 0 171 (dk_at dksX7_stepOn_7 10 rfl rfl)
theorem dX7_stepOn_175 : decode cX7_stepOn 175 = .ok (.goto (-52), 3) := dk_167 255 204 (dk_at dksX7_stepOn_7 13 rfl rfl)
theorem dX7_stepOn_178 : decode cX7_stepOn 178 = .ok (.aload_n 0, 1) := dk_42 (dk_at dksX7_stepOn_7 16 rfl rfl)
theorem dX7_stepOn_179 : decode cX7_stepOn 179 = .ok (.iconst 2, 1) := dk_5 (dk_at dksX7_stepOn_7 17 rfl rfl)
theorem dX7_stepOn_180 : decode cX7_stepOn 180 = .ok (.putfield 181, 3) := dk_181 0 181 (dk_at dksX7_stepOn_7 18 rfl rfl)
theorem dX7_stepOn_183 : decode cX7_stepOn 183 = .ok (.goto 29, 3) := dk_167 0 29 (dk_at dksX7_stepOn_7 21 rfl rfl)
theorem dX7_stepOn_186 : decode cX7_stepOn 186 = .ok (.aload_n 0, 1) := dk_42 (dk_at dksX7_stepOn_8 0 rfl rfl)
theorem dX7_stepOn_187 : decode cX7_stepOn 187 = .ok (.dup, 1) := dk_89 (dk_at dksX7_stepOn_8 1 rfl rfl)
theorem dX7_stepOn_188 : decode cX7_stepOn 188 = .ok (.getfield 171, 3) := dk_180 0 171 (dk_at dksX7_stepOn_8 2 rfl rfl)
theorem dX7_stepOn_191 : decode cX7_stepOn 191 = .ok (.iconst 1, 1) := dk_4 (dk_at dksX7_stepOn_8 5 rfl rfl)
theorem dX7_stepOn_192 : decode cX7_stepOn 192 = .ok (.iadd, 1) := dk_96 (dk_at dksX7_stepOn_8 6 rfl rfl)
theorem dX7_stepOn_193 : decode cX7_stepOn 193 = .ok (.putfield 171, 3) := dk_181 0 171 (dk_at dksX7_stepOn_8 7 rfl rfl)
theorem dX7_stepOn_196 : decode cX7_stepOn 196 = .ok (.aload_n 0, 1) := dk_42 (dk_at dksX7_stepOn_8 10 rfl rfl)
theorem dX7_stepOn_197 : decode cX7_stepOn 197 = .ok (.iload_n 1, 1) := dk_27 (dk_at dksX7_stepOn_8 11 rfl rfl)
theorem dX7_stepOn_198 : decode cX7_stepOn 198 = .ok (.invokestatic 201, 3) := dk_184 0 201 (dk_at dksX7_stepOn_8 12 rfl rfl)
theorem dX7_stepOn_201 : decode cX7_stepOn 201 = .ok (.ifCond .eq 7, 3) := dk_153 0 7 (dk_at dksX7_stepOn_8 15 rfl rfl)
theorem dX7_stepOn_204 : decode cX7_stepOn 204 = .ok (.iconst 3, 1) := dk_6 (dk_at dksX7_stepOn_8 18 rfl rfl)
theorem dX7_stepOn_205 : decode cX7_stepOn 205 = .ok (.goto 4, 3) := dk_167 0 4 (dk_at dksX7_stepOn_8 19 rfl rfl)
theorem dX7_stepOn_208 : decode cX7_stepOn 208 = .ok (.iconst 4, 1) := dk_7 (dk_at dksX7_stepOn_8 22 rfl rfl)
theorem dX7_stepOn_209 : decode cX7_stepOn 209 = .ok (.putfield 181, 3) := dk_181 0 181 (dk_at dksX7_stepOn_9 0 rfl rfl)
theorem dX7_stepOn_212 : decode cX7_stepOn 212 = .ok (.aload_n 0, 1) := dk_42 (dk_at dksX7_stepOn_9 3 rfl rfl)
theorem dX7_stepOn_213 : decode cX7_stepOn 213 = .ok (.aload_n 0, 1) := dk_42 (dk_at dksX7_stepOn_9 4 rfl rfl)
theorem dX7_stepOn_214 : decode cX7_stepOn 214 = .ok (.getfield 171, 3) := dk_180 0 171 (dk_at dksX7_stepOn_9 5 rfl rfl)
theorem dX7_stepOn_217 : decode cX7_stepOn 217 = .ok (.putfield 204, 3) := dk_181 0 204 (dk_at dksX7_stepOn_9 8 rfl rfl)
theorem dX7_stepOn_220 : decode cX7_stepOn 220 = .ok (.return_, 1) := dk_177 (dk_at dksX7_stepOn_9 11 rfl rfl)
abbrev cX7_byteAt : ByteArray := prog_21_method_11_code
def yX7_byteAt : MethodName := ⟨RX7, "byteAt", "(I)I"⟩
def dkwX7_byteAt_0 : List UInt8 := [27, 42, 180, 0, 169, 162, 0, 12, 42, 180, 0, 76, 27, 46, 167, 0, 4, 2, 172]
abbrev dktX7_byteAt_0 : List UInt8 := dkwX7_byteAt_0 ++ []
theorem dksX7_byteAt_0 : cX7_byteAt.data.toList.drop 0 = dktX7_byteAt_0 := by decide +kernel
theorem dX7_byteAt_0 : decode cX7_byteAt 0 = .ok (.iload_n 1, 1) := dk_27 (dk_at dksX7_byteAt_0 0 rfl rfl)
theorem dX7_byteAt_1 : decode cX7_byteAt 1 = .ok (.aload_n 0, 1) := dk_42 (dk_at dksX7_byteAt_0 1 rfl rfl)
theorem dX7_byteAt_2 : decode cX7_byteAt 2 = .ok (.getfield 169, 3) := dk_180 0 169 (dk_at dksX7_byteAt_0 2 rfl rfl)
theorem dX7_byteAt_5 : decode cX7_byteAt 5 = .ok (.if_icmp .ge 12, 3) := dk_162 0 12 (dk_at dksX7_byteAt_0 5 rfl rfl)
theorem dX7_byteAt_8 : decode cX7_byteAt 8 = .ok (.aload_n 0, 1) := dk_42 (dk_at dksX7_byteAt_0 8 rfl rfl)
theorem dX7_byteAt_9 : decode cX7_byteAt 9 = .ok (.getfield 76, 3) := dk_180 0 76 (dk_at dksX7_byteAt_0 9 rfl rfl)
theorem dX7_byteAt_12 : decode cX7_byteAt 12 = .ok (.iload_n 1, 1) := dk_27 (dk_at dksX7_byteAt_0 12 rfl rfl)
theorem dX7_byteAt_13 : decode cX7_byteAt 13 = .ok (.iaload, 1) := dk_46 (dk_at dksX7_byteAt_0 13 rfl rfl)
theorem dX7_byteAt_14 : decode cX7_byteAt 14 = .ok (.goto 4, 3) := dk_167 0 4 (dk_at dksX7_byteAt_0 14 rfl rfl)
theorem dX7_byteAt_17 : decode cX7_byteAt 17 = .ok (.iconst (-1), 1) := dk_2 (dk_at dksX7_byteAt_0 17 rfl rfl)
theorem dX7_byteAt_18 : decode cX7_byteAt 18 = .ok (.ireturn, 1) := dk_172 (dk_at dksX7_byteAt_0 18 rfl rfl)
abbrev cX7_isLetter : ByteArray := prog_21_method_12_code
def yX7_isLetter : MethodName := ⟨RX7, "isLetter", "(I)Z"⟩
def dkwX7_isLetter_0 : List UInt8 := [26, 16, 97, 161, 0, 13, 26, 16, 122, 163, 0, 7, 4, 167, 0, 4, 3, 172]
abbrev dktX7_isLetter_0 : List UInt8 := dkwX7_isLetter_0 ++ []
theorem dksX7_isLetter_0 : cX7_isLetter.data.toList.drop 0 = dktX7_isLetter_0 := by decide +kernel
theorem dX7_isLetter_0 : decode cX7_isLetter 0 = .ok (.iload_n 0, 1) := dk_26 (dk_at dksX7_isLetter_0 0 rfl rfl)
theorem dX7_isLetter_1 : decode cX7_isLetter 1 = .ok (.bipush 97, 2) := dk_16 97 (dk_at dksX7_isLetter_0 1 rfl rfl)
theorem dX7_isLetter_3 : decode cX7_isLetter 3 = .ok (.if_icmp .lt 13, 3) := dk_161 0 13 (dk_at dksX7_isLetter_0 3 rfl rfl)
theorem dX7_isLetter_6 : decode cX7_isLetter 6 = .ok (.iload_n 0, 1) := dk_26 (dk_at dksX7_isLetter_0 6 rfl rfl)
theorem dX7_isLetter_7 : decode cX7_isLetter 7 = .ok (.bipush 122, 2) := dk_16 122 (dk_at dksX7_isLetter_0 7 rfl rfl)
theorem dX7_isLetter_9 : decode cX7_isLetter 9 = .ok (.if_icmp .gt 7, 3) := dk_163 0 7 (dk_at dksX7_isLetter_0 9 rfl rfl)
theorem dX7_isLetter_12 : decode cX7_isLetter 12 = .ok (.iconst 1, 1) := dk_4 (dk_at dksX7_isLetter_0 12 rfl rfl)
theorem dX7_isLetter_13 : decode cX7_isLetter 13 = .ok (.goto 4, 3) := dk_167 0 4 (dk_at dksX7_isLetter_0 13 rfl rfl)
theorem dX7_isLetter_16 : decode cX7_isLetter 16 = .ok (.iconst 0, 1) := dk_3 (dk_at dksX7_isLetter_0 16 rfl rfl)
theorem dX7_isLetter_17 : decode cX7_isLetter 17 = .ok (.ireturn, 1) := dk_172 (dk_at dksX7_isLetter_0 17 rfl rfl)
abbrev cX7_isDigit : ByteArray := prog_21_method_13_code
def yX7_isDigit : MethodName := ⟨RX7, "isDigit", "(I)Z"⟩
def dkwX7_isDigit_0 : List UInt8 := [26, 16, 48, 161, 0, 13, 26, 16, 57, 163, 0, 7, 4, 167, 0, 4, 3, 172]
abbrev dktX7_isDigit_0 : List UInt8 := dkwX7_isDigit_0 ++ []
theorem dksX7_isDigit_0 : cX7_isDigit.data.toList.drop 0 = dktX7_isDigit_0 := by decide +kernel
theorem dX7_isDigit_0 : decode cX7_isDigit 0 = .ok (.iload_n 0, 1) := dk_26 (dk_at dksX7_isDigit_0 0 rfl rfl)
theorem dX7_isDigit_1 : decode cX7_isDigit 1 = .ok (.bipush 48, 2) := dk_16 48 (dk_at dksX7_isDigit_0 1 rfl rfl)
theorem dX7_isDigit_3 : decode cX7_isDigit 3 = .ok (.if_icmp .lt 13, 3) := dk_161 0 13 (dk_at dksX7_isDigit_0 3 rfl rfl)
theorem dX7_isDigit_6 : decode cX7_isDigit 6 = .ok (.iload_n 0, 1) := dk_26 (dk_at dksX7_isDigit_0 6 rfl rfl)
theorem dX7_isDigit_7 : decode cX7_isDigit 7 = .ok (.bipush 57, 2) := dk_16 57 (dk_at dksX7_isDigit_0 7 rfl rfl)
theorem dX7_isDigit_9 : decode cX7_isDigit 9 = .ok (.if_icmp .gt 7, 3) := dk_163 0 7 (dk_at dksX7_isDigit_0 9 rfl rfl)
theorem dX7_isDigit_12 : decode cX7_isDigit 12 = .ok (.iconst 1, 1) := dk_4 (dk_at dksX7_isDigit_0 12 rfl rfl)
theorem dX7_isDigit_13 : decode cX7_isDigit 13 = .ok (.goto 4, 3) := dk_167 0 4 (dk_at dksX7_isDigit_0 13 rfl rfl)
theorem dX7_isDigit_16 : decode cX7_isDigit 16 = .ok (.iconst 0, 1) := dk_3 (dk_at dksX7_isDigit_0 16 rfl rfl)
theorem dX7_isDigit_17 : decode cX7_isDigit 17 = .ok (.ireturn, 1) := dk_172 (dk_at dksX7_isDigit_0 17 rfl rfl)
abbrev cX7_isMark : ByteArray := prog_21_method_14_code
def yX7_isMark : MethodName := ⟨RX7, "isMark", "(I)Z"⟩
def dkwX7_isMark_2 : List UInt8 := [26, 16, 61, 160, 0, 7, 4, 167, 0, 4, 3, 172]
abbrev dktX7_isMark_2 : List UInt8 := dkwX7_isMark_2 ++ []
def dkwX7_isMark_1 : List UInt8 := [26, 16, 45, 159, 0, 27, 26, 16, 42, 159, 0, 21, 26, 16, 47, 159, 0, 15, 26, 16, 60, 159, 0, 9]
abbrev dktX7_isMark_1 : List UInt8 := dkwX7_isMark_1 ++ dktX7_isMark_2
def dkwX7_isMark_0 : List UInt8 := [26, 16, 59, 159, 0, 51, 26, 16, 40, 159, 0, 45, 26, 16, 41, 159, 0, 39, 26, 16, 43, 159, 0, 33]
abbrev dktX7_isMark_0 : List UInt8 := dkwX7_isMark_0 ++ dktX7_isMark_1
theorem dksX7_isMark_0 : cX7_isMark.data.toList.drop 0 = dktX7_isMark_0 := by decide +kernel
theorem dksX7_isMark_1 : cX7_isMark.data.toList.drop 24 = dktX7_isMark_1 := dk_seg dksX7_isMark_0 24 rfl rfl
theorem dksX7_isMark_2 : cX7_isMark.data.toList.drop 48 = dktX7_isMark_2 := dk_seg dksX7_isMark_1 24 rfl rfl
theorem dX7_isMark_0 : decode cX7_isMark 0 = .ok (.iload_n 0, 1) := dk_26 (dk_at dksX7_isMark_0 0 rfl rfl)
theorem dX7_isMark_1 : decode cX7_isMark 1 = .ok (.bipush 59, 2) := dk_16 59 (dk_at dksX7_isMark_0 1 rfl rfl)
theorem dX7_isMark_3 : decode cX7_isMark 3 = .ok (.if_icmp .eq 51, 3) := dk_159 0 51 (dk_at dksX7_isMark_0 3 rfl rfl)
theorem dX7_isMark_6 : decode cX7_isMark 6 = .ok (.iload_n 0, 1) := dk_26 (dk_at dksX7_isMark_0 6 rfl rfl)
theorem dX7_isMark_7 : decode cX7_isMark 7 = .ok (.bipush 40, 2) := dk_16 40 (dk_at dksX7_isMark_0 7 rfl rfl)
theorem dX7_isMark_9 : decode cX7_isMark 9 = .ok (.if_icmp .eq 45, 3) := dk_159 0 45 (dk_at dksX7_isMark_0 9 rfl rfl)
theorem dX7_isMark_12 : decode cX7_isMark 12 = .ok (.iload_n 0, 1) := dk_26 (dk_at dksX7_isMark_0 12 rfl rfl)
theorem dX7_isMark_13 : decode cX7_isMark 13 = .ok (.bipush 41, 2) := dk_16 41 (dk_at dksX7_isMark_0 13 rfl rfl)
theorem dX7_isMark_15 : decode cX7_isMark 15 = .ok (.if_icmp .eq 39, 3) := dk_159 0 39 (dk_at dksX7_isMark_0 15 rfl rfl)
theorem dX7_isMark_18 : decode cX7_isMark 18 = .ok (.iload_n 0, 1) := dk_26 (dk_at dksX7_isMark_0 18 rfl rfl)
theorem dX7_isMark_19 : decode cX7_isMark 19 = .ok (.bipush 43, 2) := dk_16 43 (dk_at dksX7_isMark_0 19 rfl rfl)
theorem dX7_isMark_21 : decode cX7_isMark 21 = .ok (.if_icmp .eq 33, 3) := dk_159 0 33 (dk_at dksX7_isMark_0 21 rfl rfl)
theorem dX7_isMark_24 : decode cX7_isMark 24 = .ok (.iload_n 0, 1) := dk_26 (dk_at dksX7_isMark_1 0 rfl rfl)
theorem dX7_isMark_25 : decode cX7_isMark 25 = .ok (.bipush 45, 2) := dk_16 45 (dk_at dksX7_isMark_1 1 rfl rfl)
theorem dX7_isMark_27 : decode cX7_isMark 27 = .ok (.if_icmp .eq 27, 3) := dk_159 0 27 (dk_at dksX7_isMark_1 3 rfl rfl)
theorem dX7_isMark_30 : decode cX7_isMark 30 = .ok (.iload_n 0, 1) := dk_26 (dk_at dksX7_isMark_1 6 rfl rfl)
theorem dX7_isMark_31 : decode cX7_isMark 31 = .ok (.bipush 42, 2) := dk_16 42 (dk_at dksX7_isMark_1 7 rfl rfl)
theorem dX7_isMark_33 : decode cX7_isMark 33 = .ok (.if_icmp .eq 21, 3) := dk_159 0 21 (dk_at dksX7_isMark_1 9 rfl rfl)
theorem dX7_isMark_36 : decode cX7_isMark 36 = .ok (.iload_n 0, 1) := dk_26 (dk_at dksX7_isMark_1 12 rfl rfl)
theorem dX7_isMark_37 : decode cX7_isMark 37 = .ok (.bipush 47, 2) := dk_16 47 (dk_at dksX7_isMark_1 13 rfl rfl)
theorem dX7_isMark_39 : decode cX7_isMark 39 = .ok (.if_icmp .eq 15, 3) := dk_159 0 15 (dk_at dksX7_isMark_1 15 rfl rfl)
theorem dX7_isMark_42 : decode cX7_isMark 42 = .ok (.iload_n 0, 1) := dk_26 (dk_at dksX7_isMark_1 18 rfl rfl)
theorem dX7_isMark_43 : decode cX7_isMark 43 = .ok (.bipush 60, 2) := dk_16 60 (dk_at dksX7_isMark_1 19 rfl rfl)
theorem dX7_isMark_45 : decode cX7_isMark 45 = .ok (.if_icmp .eq 9, 3) := dk_159 0 9 (dk_at dksX7_isMark_1 21 rfl rfl)
theorem dX7_isMark_48 : decode cX7_isMark 48 = .ok (.iload_n 0, 1) := dk_26 (dk_at dksX7_isMark_2 0 rfl rfl)
theorem dX7_isMark_49 : decode cX7_isMark 49 = .ok (.bipush 61, 2) := dk_16 61 (dk_at dksX7_isMark_2 1 rfl rfl)
theorem dX7_isMark_51 : decode cX7_isMark 51 = .ok (.if_icmp .ne 7, 3) := dk_160 0 7 (dk_at dksX7_isMark_2 3 rfl rfl)
theorem dX7_isMark_54 : decode cX7_isMark 54 = .ok (.iconst 1, 1) := dk_4 (dk_at dksX7_isMark_2 6 rfl rfl)
theorem dX7_isMark_55 : decode cX7_isMark 55 = .ok (.goto 4, 3) := dk_167 0 4 (dk_at dksX7_isMark_2 7 rfl rfl)
theorem dX7_isMark_58 : decode cX7_isMark 58 = .ok (.iconst 0, 1) := dk_3 (dk_at dksX7_isMark_2 10 rfl rfl)
theorem dX7_isMark_59 : decode cX7_isMark 59 = .ok (.ireturn, 1) := dk_172 (dk_at dksX7_isMark_2 11 rfl rfl)
abbrev cX7_readLine : ByteArray := prog_21_method_34_code
def yX7_readLine : MethodName := ⟨RX7, "readLine", "(I)I"⟩
def dkwX7_readLine_8 : List UInt8 := [182, 0, 248, 27, 28, 128, 172]
abbrev dktX7_readLine_8 : List UInt8 := dkwX7_readLine_8 ++ []
def dkwX7_readLine_7 : List UInt8 := [19, 1, 46, 182, 0, 221, 153, 0, 10, 42, 182, 1, 48, 167, 0, 8, 42, 4, 182, 0, 228, 42, 16, 59]
abbrev dktX7_readLine_7 : List UInt8 := dkwX7_readLine_7 ++ dktX7_readLine_8
def dkwX7_readLine_6 : List UInt8 := [182, 1, 38, 167, 0, 42, 42, 19, 1, 41, 182, 0, 221, 153, 0, 10, 42, 182, 1, 43, 167, 0, 25, 42]
abbrev dktX7_readLine_6 : List UInt8 := dkwX7_readLine_6 ++ dktX7_readLine_7
def dkwX7_readLine_5 : List UInt8 := [16, 23, 182, 0, 238, 79, 167, 0, 63, 42, 3, 182, 0, 251, 167, 0, 55, 29, 2, 159, 0, 11, 42, 29]
abbrev dktX7_readLine_5 : List UInt8 := dkwX7_readLine_5 ++ dktX7_readLine_6
def dkwX7_readLine_4 : List UInt8 := [17, 3, 231, 182, 0, 238, 79, 167, 0, 85, 28, 5, 160, 0, 20, 42, 180, 0, 38, 16, 10, 42, 4]
abbrev dktX7_readLine_4 : List UInt8 := dkwX7_readLine_4 ++ dktX7_readLine_5
def dkwX7_readLine_3 : List UInt8 := [180, 0, 207, 154, 0, 7, 42, 182, 0, 232, 28, 4, 160, 0, 21, 42, 180, 0, 38, 16, 9, 42, 4]
abbrev dktX7_readLine_3 : List UInt8 := dkwX7_readLine_3 ++ dktX7_readLine_4
def dkwX7_readLine_2 : List UInt8 := [180, 0, 19, 182, 0, 244, 62, 28, 27, 126, 153, 0, 8, 42, 8, 182, 0, 228, 28, 158, 0, 67, 42]
abbrev dktX7_readLine_2 : List UInt8 := dkwX7_readLine_2 ++ dktX7_readLine_3
def dkwX7_readLine_1 : List UInt8 := [5, 167, 0, 18, 42, 19, 1, 36, 182, 0, 221, 153, 0, 7, 7, 167, 0, 4, 3, 61, 42, 42]
abbrev dktX7_readLine_1 : List UInt8 := dkwX7_readLine_1 ++ dktX7_readLine_2
def dkwX7_readLine_0 : List UInt8 := [42, 19, 1, 32, 182, 0, 221, 153, 0, 7, 4, 167, 0, 32, 42, 19, 1, 34, 182, 0, 221, 153, 0, 7]
abbrev dktX7_readLine_0 : List UInt8 := dkwX7_readLine_0 ++ dktX7_readLine_1
theorem dksX7_readLine_0 : cX7_readLine.data.toList.drop 0 = dktX7_readLine_0 := by decide +kernel
theorem dksX7_readLine_1 : cX7_readLine.data.toList.drop 24 = dktX7_readLine_1 := dk_seg dksX7_readLine_0 24 rfl rfl
theorem dksX7_readLine_2 : cX7_readLine.data.toList.drop 46 = dktX7_readLine_2 := dk_seg dksX7_readLine_1 22 rfl rfl
theorem dksX7_readLine_3 : cX7_readLine.data.toList.drop 69 = dktX7_readLine_3 := dk_seg dksX7_readLine_2 23 rfl rfl
theorem dksX7_readLine_4 : cX7_readLine.data.toList.drop 92 = dktX7_readLine_4 := dk_seg dksX7_readLine_3 23 rfl rfl
theorem dksX7_readLine_5 : cX7_readLine.data.toList.drop 115 = dktX7_readLine_5 := dk_seg dksX7_readLine_4 23 rfl rfl
theorem dksX7_readLine_6 : cX7_readLine.data.toList.drop 139 = dktX7_readLine_6 := dk_seg dksX7_readLine_5 24 rfl rfl
theorem dksX7_readLine_7 : cX7_readLine.data.toList.drop 163 = dktX7_readLine_7 := dk_seg dksX7_readLine_6 24 rfl rfl
theorem dksX7_readLine_8 : cX7_readLine.data.toList.drop 187 = dktX7_readLine_8 := dk_seg dksX7_readLine_7 24 rfl rfl
theorem dX7_readLine_0 : decode cX7_readLine 0 = .ok (.aload_n 0, 1) := dk_42 (dk_at dksX7_readLine_0 0 rfl rfl)
theorem dX7_readLine_1 : decode cX7_readLine 1 = .ok (.ldc_w 288, 3) := dk_19 1 32 (dk_at dksX7_readLine_0 1 rfl rfl)
theorem dX7_readLine_4 : decode cX7_readLine 4 = .ok (.invokevirtual 221, 3) := dk_182 0 221 (dk_at dksX7_readLine_0 4 rfl rfl)
theorem dX7_readLine_7 : decode cX7_readLine 7 = .ok (.ifCond .eq 7, 3) := dk_153 0 7 (dk_at dksX7_readLine_0 7 rfl rfl)
theorem dX7_readLine_10 : decode cX7_readLine 10 = .ok (.iconst 1, 1) := dk_4 (dk_at dksX7_readLine_0 10 rfl rfl)
theorem dX7_readLine_11 : decode cX7_readLine 11 = .ok (.goto 32, 3) := dk_167 0 32 (dk_at dksX7_readLine_0 11 rfl rfl)
theorem dX7_readLine_14 : decode cX7_readLine 14 = .ok (.aload_n 0, 1) := dk_42 (dk_at dksX7_readLine_0 14 rfl rfl)
theorem dX7_readLine_15 : decode cX7_readLine 15 = .ok (.ldc_w 290, 3) := dk_19 1 34 (dk_at dksX7_readLine_0 15 rfl rfl)
theorem dX7_readLine_18 : decode cX7_readLine 18 = .ok (.invokevirtual 221, 3) := dk_182 0 221 (dk_at dksX7_readLine_0 18 rfl rfl)
theorem dX7_readLine_21 : decode cX7_readLine 21 = .ok (.ifCond .eq 7, 3) := dk_153 0 7 (dk_at dksX7_readLine_0 21 rfl rfl)
theorem dX7_readLine_24 : decode cX7_readLine 24 = .ok (.iconst 2, 1) := dk_5 (dk_at dksX7_readLine_1 0 rfl rfl)
theorem dX7_readLine_25 : decode cX7_readLine 25 = .ok (.goto 18, 3) := dk_167 0 18 (dk_at dksX7_readLine_1 1 rfl rfl)
theorem dX7_readLine_28 : decode cX7_readLine 28 = .ok (.aload_n 0, 1) := dk_42 (dk_at dksX7_readLine_1 4 rfl rfl)
theorem dX7_readLine_29 : decode cX7_readLine 29 = .ok (.ldc_w 292, 3) := dk_19 1 36 (dk_at dksX7_readLine_1 5 rfl rfl)
theorem dX7_readLine_32 : decode cX7_readLine 32 = .ok (.invokevirtual 221, 3) := dk_182 0 221 (dk_at dksX7_readLine_1 8 rfl rfl)
theorem dX7_readLine_35 : decode cX7_readLine 35 = .ok (.ifCond .eq 7, 3) := dk_153 0 7 (dk_at dksX7_readLine_1 11 rfl rfl)
theorem dX7_readLine_38 : decode cX7_readLine 38 = .ok (.iconst 4, 1) := dk_7 (dk_at dksX7_readLine_1 14 rfl rfl)
theorem dX7_readLine_39 : decode cX7_readLine 39 = .ok (.goto 4, 3) := dk_167 0 4 (dk_at dksX7_readLine_1 15 rfl rfl)
theorem dX7_readLine_42 : decode cX7_readLine 42 = .ok (.iconst 0, 1) := dk_3 (dk_at dksX7_readLine_1 18 rfl rfl)
theorem dX7_readLine_43 : decode cX7_readLine 43 = .ok (.istore_n 2, 1) := dk_61 (dk_at dksX7_readLine_1 19 rfl rfl)
theorem dX7_readLine_44 : decode cX7_readLine 44 = .ok (.aload_n 0, 1) := dk_42 (dk_at dksX7_readLine_1 20 rfl rfl)
theorem dX7_readLine_45 : decode cX7_readLine 45 = .ok (.aload_n 0, 1) := dk_42 (dk_at dksX7_readLine_1 21 rfl rfl)
theorem dX7_readLine_46 : decode cX7_readLine 46 = .ok (.getfield 19, 3) := dk_180 0 19 (dk_at dksX7_readLine_2 0 rfl rfl)
theorem dX7_readLine_49 : decode cX7_readLine 49 = .ok (.invokevirtual 244, 3) := dk_182 0 244 (dk_at dksX7_readLine_2 3 rfl rfl)
theorem dX7_readLine_52 : decode cX7_readLine 52 = .ok (.istore_n 3, 1) := dk_62 (dk_at dksX7_readLine_2 6 rfl rfl)
theorem dX7_readLine_53 : decode cX7_readLine 53 = .ok (.iload_n 2, 1) := dk_28 (dk_at dksX7_readLine_2 7 rfl rfl)
theorem dX7_readLine_54 : decode cX7_readLine 54 = .ok (.iload_n 1, 1) := dk_27 (dk_at dksX7_readLine_2 8 rfl rfl)
theorem dX7_readLine_55 : decode cX7_readLine 55 = .ok (.iand, 1) := dk_126 (dk_at dksX7_readLine_2 9 rfl rfl)
theorem dX7_readLine_56 : decode cX7_readLine 56 = .ok (.ifCond .eq 8, 3) := dk_153 0 8 (dk_at dksX7_readLine_2 10 rfl rfl)
theorem dX7_readLine_59 : decode cX7_readLine 59 = .ok (.aload_n 0, 1) := dk_42 (dk_at dksX7_readLine_2 13 rfl rfl)
theorem dX7_readLine_60 : decode cX7_readLine 60 = .ok (.iconst 5, 1) := dk_8 (dk_at dksX7_readLine_2 14 rfl rfl)
theorem dX7_readLine_61 : decode cX7_readLine 61 = .ok (.invokevirtual 228, 3) := dk_182 0 228 (dk_at dksX7_readLine_2 15 rfl rfl)
theorem dX7_readLine_64 : decode cX7_readLine 64 = .ok (.iload_n 2, 1) := dk_28 (dk_at dksX7_readLine_2 18 rfl rfl)
theorem dX7_readLine_65 : decode cX7_readLine 65 = .ok (.ifCond .le 67, 3) := dk_158 0 67 (dk_at dksX7_readLine_2 19 rfl rfl)
theorem dX7_readLine_68 : decode cX7_readLine 68 = .ok (.aload_n 0, 1) := dk_42 (dk_at dksX7_readLine_2 22 rfl rfl)
theorem dX7_readLine_69 : decode cX7_readLine 69 = .ok (.getfield 207, 3) := dk_180 0 207 (dk_at dksX7_readLine_3 0 rfl rfl)
theorem dX7_readLine_72 : decode cX7_readLine 72 = .ok (.ifCond .ne 7, 3) := dk_154 0 7 (dk_at dksX7_readLine_3 3 rfl rfl)
theorem dX7_readLine_75 : decode cX7_readLine 75 = .ok (.aload_n 0, 1) := dk_42 (dk_at dksX7_readLine_3 6 rfl rfl)
theorem dX7_readLine_76 : decode cX7_readLine 76 = .ok (.invokevirtual 232, 3) := dk_182 0 232 (dk_at dksX7_readLine_3 7 rfl rfl)
theorem dX7_readLine_79 : decode cX7_readLine 79 = .ok (.iload_n 2, 1) := dk_28 (dk_at dksX7_readLine_3 10 rfl rfl)
theorem dX7_readLine_80 : decode cX7_readLine 80 = .ok (.iconst 1, 1) := dk_4 (dk_at dksX7_readLine_3 11 rfl rfl)
theorem dX7_readLine_81 : decode cX7_readLine 81 = .ok (.if_icmp .ne 21, 3) := dk_160 0 21 (dk_at dksX7_readLine_3 12 rfl rfl)
theorem dX7_readLine_84 : decode cX7_readLine 84 = .ok (.aload_n 0, 1) := dk_42 (dk_at dksX7_readLine_3 15 rfl rfl)
theorem dX7_readLine_85 : decode cX7_readLine 85 = .ok (.getfield 38, 3) := dk_180 0 38 (dk_at dksX7_readLine_3 16 rfl rfl)
theorem dX7_readLine_88 : decode cX7_readLine 88 = .ok (.bipush 9, 2) := dk_16 9 (dk_at dksX7_readLine_3 19 rfl rfl)
theorem dX7_readLine_90 : decode cX7_readLine 90 = .ok (.aload_n 0, 1) := dk_42 (dk_at dksX7_readLine_3 21 rfl rfl)
theorem dX7_readLine_91 : decode cX7_readLine 91 = .ok (.iconst 1, 1) := dk_4 (dk_at dksX7_readLine_3 22 rfl rfl)
theorem dX7_readLine_92 : decode cX7_readLine 92 = .ok (.sipush 999, 3) := dk_17 3 231 (dk_at dksX7_readLine_4 0 rfl rfl)
theorem dX7_readLine_95 : decode cX7_readLine 95 = .ok (.invokevirtual 238, 3) := dk_182 0 238 (dk_at dksX7_readLine_4 3 rfl rfl)
theorem dX7_readLine_98 : decode cX7_readLine 98 = .ok (.iastore, 1) := dk_79 (dk_at dksX7_readLine_4 6 rfl rfl)
theorem dX7_readLine_99 : decode cX7_readLine 99 = .ok (.goto 85, 3) := dk_167 0 85 (dk_at dksX7_readLine_4 7 rfl rfl)
theorem dX7_readLine_102 : decode cX7_readLine 102 = .ok (.iload_n 2, 1) := dk_28 (dk_at dksX7_readLine_4 10 rfl rfl)
theorem dX7_readLine_103 : decode cX7_readLine 103 = .ok (.iconst 2, 1) := dk_5 (dk_at dksX7_readLine_4 11 rfl rfl)
theorem dX7_readLine_104 : decode cX7_readLine 104 = .ok (.if_icmp .ne 20, 3) := dk_160 0 20 (dk_at dksX7_readLine_4 12 rfl rfl)
theorem dX7_readLine_107 : decode cX7_readLine 107 = .ok (.aload_n 0, 1) := dk_42 (dk_at dksX7_readLine_4 15 rfl rfl)
theorem dX7_readLine_108 : decode cX7_readLine 108 = .ok (.getfield 38, 3) := dk_180 0 38 (dk_at dksX7_readLine_4 16 rfl rfl)
theorem dX7_readLine_111 : decode cX7_readLine 111 = .ok (.bipush 10, 2) := dk_16 10 (dk_at dksX7_readLine_4 19 rfl rfl)
theorem dX7_readLine_113 : decode cX7_readLine 113 = .ok (.aload_n 0, 1) := dk_42 (dk_at dksX7_readLine_4 21 rfl rfl)
theorem dX7_readLine_114 : decode cX7_readLine 114 = .ok (.iconst 1, 1) := dk_4 (dk_at dksX7_readLine_4 22 rfl rfl)
theorem dX7_readLine_115 : decode cX7_readLine 115 = .ok (.bipush 23, 2) := dk_16 23 (dk_at dksX7_readLine_5 0 rfl rfl)
theorem dX7_readLine_117 : decode cX7_readLine 117 = .ok (.invokevirtual 238, 3) := dk_182 0 238 (dk_at dksX7_readLine_5 2 rfl rfl)
theorem dX7_readLine_120 : decode cX7_readLine 120 = .ok (.iastore, 1) := dk_79 (dk_at dksX7_readLine_5 5 rfl rfl)
theorem dX7_readLine_121 : decode cX7_readLine 121 = .ok (.goto 63, 3) := dk_167 0 63 (dk_at dksX7_readLine_5 6 rfl rfl)
theorem dX7_readLine_124 : decode cX7_readLine 124 = .ok (.aload_n 0, 1) := dk_42 (dk_at dksX7_readLine_5 9 rfl rfl)
theorem dX7_readLine_125 : decode cX7_readLine 125 = .ok (.iconst 0, 1) := dk_3 (dk_at dksX7_readLine_5 10 rfl rfl)
theorem dX7_readLine_126 : decode cX7_readLine 126 = .ok (.invokevirtual 251, 3) := dk_182 0 251 (dk_at dksX7_readLine_5 11 rfl rfl)
theorem dX7_readLine_129 : decode cX7_readLine 129 = .ok (.goto 55, 3) := dk_167 0 55 (dk_at dksX7_readLine_5 14 rfl rfl)
theorem dX7_readLine_132 : decode cX7_readLine 132 = .ok (.iload_n 3, 1) := dk_29 (dk_at dksX7_readLine_5 17 rfl rfl)
theorem dX7_readLine_133 : decode cX7_readLine 133 = .ok (.iconst (-1), 1) := dk_2 (dk_at dksX7_readLine_5 18 rfl rfl)
theorem dX7_readLine_134 : decode cX7_readLine 134 = .ok (.if_icmp .eq 11, 3) := dk_159 0 11 (dk_at dksX7_readLine_5 19 rfl rfl)
theorem dX7_readLine_137 : decode cX7_readLine 137 = .ok (.aload_n 0, 1) := dk_42 (dk_at dksX7_readLine_5 22 rfl rfl)
theorem dX7_readLine_138 : decode cX7_readLine 138 = .ok (.iload_n 3, 1) := dk_29 (dk_at dksX7_readLine_5 23 rfl rfl)
theorem dX7_readLine_139 : decode cX7_readLine 139 = .ok (.invokevirtual 294, 3) := dk_182 1 38 (dk_at dksX7_readLine_6 0 rfl rfl)
theorem dX7_readLine_142 : decode cX7_readLine 142 = .ok (.goto 42, 3) := dk_167 0 42 (dk_at dksX7_readLine_6 3 rfl rfl)
theorem dX7_readLine_145 : decode cX7_readLine 145 = .ok (.aload_n 0, 1) := dk_42 (dk_at dksX7_readLine_6 6 rfl rfl)
theorem dX7_readLine_146 : decode cX7_readLine 146 = .ok (.ldc_w 297, 3) := dk_19 1 41 (dk_at dksX7_readLine_6 7 rfl rfl)
theorem dX7_readLine_149 : decode cX7_readLine 149 = .ok (.invokevirtual 221, 3) := dk_182 0 221 (dk_at dksX7_readLine_6 10 rfl rfl)
theorem dX7_readLine_152 : decode cX7_readLine 152 = .ok (.ifCond .eq 10, 3) := dk_153 0 10 (dk_at dksX7_readLine_6 13 rfl rfl)
theorem dX7_readLine_155 : decode cX7_readLine 155 = .ok (.aload_n 0, 1) := dk_42 (dk_at dksX7_readLine_6 16 rfl rfl)
theorem dX7_readLine_156 : decode cX7_readLine 156 = .ok (.invokevirtual 299, 3) := dk_182 1 43 (dk_at dksX7_readLine_6 17 rfl rfl)
theorem dX7_readLine_159 : decode cX7_readLine 159 = .ok (.goto 25, 3) := dk_167 0 25 (dk_at dksX7_readLine_6 20 rfl rfl)
theorem dX7_readLine_162 : decode cX7_readLine 162 = .ok (.aload_n 0, 1) := dk_42 (dk_at dksX7_readLine_6 23 rfl rfl)
theorem dX7_readLine_163 : decode cX7_readLine 163 = .ok (.ldc_w 302, 3) := dk_19 1 46 (dk_at dksX7_readLine_7 0 rfl rfl)
theorem dX7_readLine_166 : decode cX7_readLine 166 = .ok (.invokevirtual 221, 3) := dk_182 0 221 (dk_at dksX7_readLine_7 3 rfl rfl)
theorem dX7_readLine_169 : decode cX7_readLine 169 = .ok (.ifCond .eq 10, 3) := dk_153 0 10 (dk_at dksX7_readLine_7 6 rfl rfl)
theorem dX7_readLine_172 : decode cX7_readLine 172 = .ok (.aload_n 0, 1) := dk_42 (dk_at dksX7_readLine_7 9 rfl rfl)
theorem dX7_readLine_173 : decode cX7_readLine 173 = .ok (.invokevirtual 304, 3) := dk_182 1 48 (dk_at dksX7_readLine_7 10 rfl rfl)
theorem dX7_readLine_176 : decode cX7_readLine 176 = .ok (.goto 8, 3) := dk_167 0 8 (dk_at dksX7_readLine_7 13 rfl rfl)
theorem dX7_readLine_179 : decode cX7_readLine 179 = .ok (.aload_n 0, 1) := dk_42 (dk_at dksX7_readLine_7 16 rfl rfl)
theorem dX7_readLine_180 : decode cX7_readLine 180 = .ok (.iconst 1, 1) := dk_4 (dk_at dksX7_readLine_7 17 rfl rfl)
theorem dX7_readLine_181 : decode cX7_readLine 181 = .ok (.invokevirtual 228, 3) := dk_182 0 228 (dk_at dksX7_readLine_7 18 rfl rfl)
theorem dX7_readLine_184 : decode cX7_readLine 184 = .ok (.aload_n 0, 1) := dk_42 (dk_at dksX7_readLine_7 21 rfl rfl)
theorem dX7_readLine_185 : decode cX7_readLine 185 = .ok (.bipush 59, 2) := dk_16 59 (dk_at dksX7_readLine_7 22 rfl rfl)
theorem dX7_readLine_187 : decode cX7_readLine 187 = .ok (.invokevirtual 248, 3) := dk_182 0 248 (dk_at dksX7_readLine_8 0 rfl rfl)
theorem dX7_readLine_190 : decode cX7_readLine 190 = .ok (.iload_n 1, 1) := dk_27 (dk_at dksX7_readLine_8 3 rfl rfl)
theorem dX7_readLine_191 : decode cX7_readLine 191 = .ok (.iload_n 2, 1) := dk_28 (dk_at dksX7_readLine_8 4 rfl rfl)
theorem dX7_readLine_192 : decode cX7_readLine 192 = .ok (.ior, 1) := dk_128 (dk_at dksX7_readLine_8 5 rfl rfl)
theorem dX7_readLine_193 : decode cX7_readLine 193 = .ok (.ireturn, 1) := dk_172 (dk_at dksX7_readLine_8 6 rfl rfl)
abbrev cX7_is : ByteArray := prog_21_method_17_code
def yX7_is : MethodName := ⟨RX7, "is", "(Ljava/lang/String;)Z"⟩
def dkwX7_is_3 : List UInt8 := [167, 0, 4, 3, 61, 132, 3, 1, 167, 255, 216, 28, 172]
abbrev dktX7_is_3 : List UInt8 := dkwX7_is_3 ++ []
def dkwX7_is_2 : List UInt8 := [162, 0, 34, 43, 29, 182, 0, 217, 42, 180, 0, 76, 42, 180, 0, 178, 29, 96, 46, 160, 0, 7, 4]
abbrev dktX7_is_2 : List UInt8 := dkwX7_is_2 ++ dktX7_is_3
def dkwX7_is_1 : List UInt8 := [180, 0, 178, 100, 160, 0, 7, 4, 167, 0, 4, 3, 61, 3, 62, 28, 153, 0, 42, 29, 43, 182, 0, 213]
abbrev dktX7_is_1 : List UInt8 := dkwX7_is_1 ++ dktX7_is_2
def dkwX7_is_0 : List UInt8 := [42, 180, 0, 207, 154, 0, 31, 42, 180, 0, 181, 4, 160, 0, 23, 43, 182, 0, 213, 42, 180, 0, 204, 42]
abbrev dktX7_is_0 : List UInt8 := dkwX7_is_0 ++ dktX7_is_1
theorem dksX7_is_0 : cX7_is.data.toList.drop 0 = dktX7_is_0 := by decide +kernel
theorem dksX7_is_1 : cX7_is.data.toList.drop 24 = dktX7_is_1 := dk_seg dksX7_is_0 24 rfl rfl
theorem dksX7_is_2 : cX7_is.data.toList.drop 48 = dktX7_is_2 := dk_seg dksX7_is_1 24 rfl rfl
theorem dksX7_is_3 : cX7_is.data.toList.drop 71 = dktX7_is_3 := dk_seg dksX7_is_2 23 rfl rfl
theorem dX7_is_0 : decode cX7_is 0 = .ok (.aload_n 0, 1) := dk_42 (dk_at dksX7_is_0 0 rfl rfl)
theorem dX7_is_1 : decode cX7_is 1 = .ok (.getfield 207, 3) := dk_180 0 207 (dk_at dksX7_is_0 1 rfl rfl)
theorem dX7_is_4 : decode cX7_is 4 = .ok (.ifCond .ne 31, 3) := dk_154 0 31 (dk_at dksX7_is_0 4 rfl rfl)
theorem dX7_is_7 : decode cX7_is 7 = .ok (.aload_n 0, 1) := dk_42 (dk_at dksX7_is_0 7 rfl rfl)
theorem dX7_is_8 : decode cX7_is 8 = .ok (.getfield 181, 3) := dk_180 0 181 (dk_at dksX7_is_0 8 rfl rfl)
theorem dX7_is_11 : decode cX7_is 11 = .ok (.iconst 1, 1) := dk_4 (dk_at dksX7_is_0 11 rfl rfl)
theorem dX7_is_12 : decode cX7_is 12 = .ok (.if_icmp .ne 23, 3) := dk_160 0 23 (dk_at dksX7_is_0 12 rfl rfl)
theorem dX7_is_15 : decode cX7_is 15 = .ok (.aload_n 1, 1) := dk_43 (dk_at dksX7_is_0 15 rfl rfl)
theorem dX7_is_16 : decode cX7_is 16 = .ok (.invokevirtual 213, 3) := dk_182 0 213 (dk_at dksX7_is_0 16 rfl rfl)
theorem dX7_is_19 : decode cX7_is 19 = .ok (.aload_n 0, 1) := dk_42 (dk_at dksX7_is_0 19 rfl rfl)
theorem dX7_is_20 : decode cX7_is 20 = .ok (.getfield 204, 3) := dk_180 0 204 (dk_at dksX7_is_0 20 rfl rfl)
theorem dX7_is_23 : decode cX7_is 23 = .ok (.aload_n 0, 1) := dk_42 (dk_at dksX7_is_0 23 rfl rfl)
theorem dX7_is_24 : decode cX7_is 24 = .ok (.getfield 178, 3) := dk_180 0 178 (dk_at dksX7_is_1 0 rfl rfl)
theorem dX7_is_27 : decode cX7_is 27 = .ok (.isub, 1) := dk_100 (dk_at dksX7_is_1 3 rfl rfl)
theorem dX7_is_28 : decode cX7_is 28 = .ok (.if_icmp .ne 7, 3) := dk_160 0 7 (dk_at dksX7_is_1 4 rfl rfl)
theorem dX7_is_31 : decode cX7_is 31 = .ok (.iconst 1, 1) := dk_4 (dk_at dksX7_is_1 7 rfl rfl)
theorem dX7_is_32 : decode cX7_is 32 = .ok (.goto 4, 3) := dk_167 0 4 (dk_at dksX7_is_1 8 rfl rfl)
theorem dX7_is_35 : decode cX7_is 35 = .ok (.iconst 0, 1) := dk_3 (dk_at dksX7_is_1 11 rfl rfl)
theorem dX7_is_36 : decode cX7_is 36 = .ok (.istore_n 2, 1) := dk_61 (dk_at dksX7_is_1 12 rfl rfl)
theorem dX7_is_37 : decode cX7_is 37 = .ok (.iconst 0, 1) := dk_3 (dk_at dksX7_is_1 13 rfl rfl)
theorem dX7_is_38 : decode cX7_is 38 = .ok (.istore_n 3, 1) := dk_62 (dk_at dksX7_is_1 14 rfl rfl)
theorem dX7_is_39 : decode cX7_is 39 = .ok (.iload_n 2, 1) := dk_28 (dk_at dksX7_is_1 15 rfl rfl)
theorem dX7_is_40 : decode cX7_is 40 = .ok (.ifCond .eq 42, 3) := dk_153 0 42 (dk_at dksX7_is_1 16 rfl rfl)
theorem dX7_is_43 : decode cX7_is 43 = .ok (.iload_n 3, 1) := dk_29 (dk_at dksX7_is_1 19 rfl rfl)
theorem dX7_is_44 : decode cX7_is 44 = .ok (.aload_n 1, 1) := dk_43 (dk_at dksX7_is_1 20 rfl rfl)
theorem dX7_is_45 : decode cX7_is 45 = .ok (.invokevirtual 213, 3) := dk_182 0 213 (dk_at dksX7_is_1 21 rfl rfl)
theorem dX7_is_48 : decode cX7_is 48 = .ok (.if_icmp .ge 34, 3) := dk_162 0 34 (dk_at dksX7_is_2 0 rfl rfl)
theorem dX7_is_51 : decode cX7_is 51 = .ok (.aload_n 1, 1) := dk_43 (dk_at dksX7_is_2 3 rfl rfl)
theorem dX7_is_52 : decode cX7_is 52 = .ok (.iload_n 3, 1) := dk_29 (dk_at dksX7_is_2 4 rfl rfl)
theorem dX7_is_53 : decode cX7_is 53 = .ok (.invokevirtual 217, 3) := dk_182 0 217 (dk_at dksX7_is_2 5 rfl rfl)
theorem dX7_is_56 : decode cX7_is 56 = .ok (.aload_n 0, 1) := dk_42 (dk_at dksX7_is_2 8 rfl rfl)
theorem dX7_is_57 : decode cX7_is 57 = .ok (.getfield 76, 3) := dk_180 0 76 (dk_at dksX7_is_2 9 rfl rfl)
theorem dX7_is_60 : decode cX7_is 60 = .ok (.aload_n 0, 1) := dk_42 (dk_at dksX7_is_2 12 rfl rfl)
theorem dX7_is_61 : decode cX7_is 61 = .ok (.getfield 178, 3) := dk_180 0 178 (dk_at dksX7_is_2 13 rfl rfl)
theorem dX7_is_64 : decode cX7_is 64 = .ok (.iload_n 3, 1) := dk_29 (dk_at dksX7_is_2 16 rfl rfl)
theorem dX7_is_65 : decode cX7_is 65 = .ok (.iadd, 1) := dk_96 (dk_at dksX7_is_2 17 rfl rfl)
theorem dX7_is_66 : decode cX7_is 66 = .ok (.iaload, 1) := dk_46 (dk_at dksX7_is_2 18 rfl rfl)
theorem dX7_is_67 : decode cX7_is 67 = .ok (.if_icmp .ne 7, 3) := dk_160 0 7 (dk_at dksX7_is_2 19 rfl rfl)
theorem dX7_is_70 : decode cX7_is 70 = .ok (.iconst 1, 1) := dk_4 (dk_at dksX7_is_2 22 rfl rfl)
theorem dX7_is_71 : decode cX7_is 71 = .ok (.goto 4, 3) := dk_167 0 4 (dk_at dksX7_is_3 0 rfl rfl)
theorem dX7_is_74 : decode cX7_is 74 = .ok (.iconst 0, 1) := dk_3 (dk_at dksX7_is_3 3 rfl rfl)
theorem dX7_is_75 : decode cX7_is 75 = .ok (.istore_n 2, 1) := dk_61 (dk_at dksX7_is_3 4 rfl rfl)
theorem dX7_is_76 : decode cX7_is 76 = .ok (.iinc 3 1, 3) := dk_132 3 1 (dk_at dksX7_is_3 5 rfl rfl)
theorem dX7_is_79 : decode cX7_is 79 = .ok (.goto (-40), 3) := dk_167 255 216 (dk_at dksX7_is_3 8 rfl rfl)
theorem dX7_is_82 : decode cX7_is 82 = .ok (.iload_n 2, 1) := dk_28 (dk_at dksX7_is_3 11 rfl rfl)
theorem dX7_is_83 : decode cX7_is 83 = .ok (.ireturn, 1) := dk_172 (dk_at dksX7_is_3 12 rfl rfl)
abbrev cX7_which : ByteArray := prog_21_method_18_code
def yX7_which : MethodName := ⟨RX7, "which", "([Ljava/lang/String;)I"⟩
def dkwX7_which_1 : List UInt8 := [167, 255, 235, 2, 172]
abbrev dktX7_which_1 : List UInt8 := dkwX7_which_1 ++ []
def dkwX7_which_0 : List UInt8 := [3, 61, 28, 43, 190, 162, 0, 21, 42, 43, 28, 50, 182, 0, 221, 153, 0, 5, 28, 172, 132, 2, 1]
abbrev dktX7_which_0 : List UInt8 := dkwX7_which_0 ++ dktX7_which_1
theorem dksX7_which_0 : cX7_which.data.toList.drop 0 = dktX7_which_0 := by decide +kernel
theorem dksX7_which_1 : cX7_which.data.toList.drop 23 = dktX7_which_1 := dk_seg dksX7_which_0 23 rfl rfl
theorem dX7_which_0 : decode cX7_which 0 = .ok (.iconst 0, 1) := dk_3 (dk_at dksX7_which_0 0 rfl rfl)
theorem dX7_which_1 : decode cX7_which 1 = .ok (.istore_n 2, 1) := dk_61 (dk_at dksX7_which_0 1 rfl rfl)
theorem dX7_which_2 : decode cX7_which 2 = .ok (.iload_n 2, 1) := dk_28 (dk_at dksX7_which_0 2 rfl rfl)
theorem dX7_which_3 : decode cX7_which 3 = .ok (.aload_n 1, 1) := dk_43 (dk_at dksX7_which_0 3 rfl rfl)
theorem dX7_which_4 : decode cX7_which 4 = .ok (.arraylength, 1) := dk_190 (dk_at dksX7_which_0 4 rfl rfl)
theorem dX7_which_5 : decode cX7_which 5 = .ok (.if_icmp .ge 21, 3) := dk_162 0 21 (dk_at dksX7_which_0 5 rfl rfl)
theorem dX7_which_8 : decode cX7_which 8 = .ok (.aload_n 0, 1) := dk_42 (dk_at dksX7_which_0 8 rfl rfl)
theorem dX7_which_9 : decode cX7_which 9 = .ok (.aload_n 1, 1) := dk_43 (dk_at dksX7_which_0 9 rfl rfl)
theorem dX7_which_10 : decode cX7_which 10 = .ok (.iload_n 2, 1) := dk_28 (dk_at dksX7_which_0 10 rfl rfl)
theorem dX7_which_11 : decode cX7_which 11 = .ok (.aaload, 1) := dk_50 (dk_at dksX7_which_0 11 rfl rfl)
theorem dX7_which_12 : decode cX7_which 12 = .ok (.invokevirtual 221, 3) := dk_182 0 221 (dk_at dksX7_which_0 12 rfl rfl)
theorem dX7_which_15 : decode cX7_which 15 = .ok (.ifCond .eq 5, 3) := dk_153 0 5 (dk_at dksX7_which_0 15 rfl rfl)
theorem dX7_which_18 : decode cX7_which 18 = .ok (.iload_n 2, 1) := dk_28 (dk_at dksX7_which_0 18 rfl rfl)
theorem dX7_which_19 : decode cX7_which 19 = .ok (.ireturn, 1) := dk_172 (dk_at dksX7_which_0 19 rfl rfl)
theorem dX7_which_20 : decode cX7_which 20 = .ok (.iinc 2 1, 3) := dk_132 2 1 (dk_at dksX7_which_0 20 rfl rfl)
theorem dX7_which_23 : decode cX7_which 23 = .ok (.goto (-21), 3) := dk_167 255 235 (dk_at dksX7_which_1 0 rfl rfl)
theorem dX7_which_26 : decode cX7_which 26 = .ok (.iconst (-1), 1) := dk_2 (dk_at dksX7_which_1 3 rfl rfl)
theorem dX7_which_27 : decode cX7_which 27 = .ok (.ireturn, 1) := dk_172 (dk_at dksX7_which_1 4 rfl rfl)
abbrev cX7_wrong : ByteArray := prog_21_method_16_code
def yX7_wrong : MethodName := ⟨RX7, "wrong", "(I)V"⟩
def dkwX7_wrong_0 : List UInt8 := [42, 180, 0, 207, 153, 0, 4, 177, 42, 27, 181, 0, 207, 42, 42, 180, 0, 178, 181, 0, 210, 177]
abbrev dktX7_wrong_0 : List UInt8 := dkwX7_wrong_0 ++ []
theorem dksX7_wrong_0 : cX7_wrong.data.toList.drop 0 = dktX7_wrong_0 := by decide +kernel
theorem dX7_wrong_0 : decode cX7_wrong 0 = .ok (.aload_n 0, 1) := dk_42 (dk_at dksX7_wrong_0 0 rfl rfl)
theorem dX7_wrong_1 : decode cX7_wrong 1 = .ok (.getfield 207, 3) := dk_180 0 207 (dk_at dksX7_wrong_0 1 rfl rfl)
theorem dX7_wrong_4 : decode cX7_wrong 4 = .ok (.ifCond .eq 4, 3) := dk_153 0 4 (dk_at dksX7_wrong_0 4 rfl rfl)
theorem dX7_wrong_7 : decode cX7_wrong 7 = .ok (.return_, 1) := dk_177 (dk_at dksX7_wrong_0 7 rfl rfl)
theorem dX7_wrong_8 : decode cX7_wrong 8 = .ok (.aload_n 0, 1) := dk_42 (dk_at dksX7_wrong_0 8 rfl rfl)
theorem dX7_wrong_9 : decode cX7_wrong 9 = .ok (.iload_n 1, 1) := dk_27 (dk_at dksX7_wrong_0 9 rfl rfl)
theorem dX7_wrong_10 : decode cX7_wrong 10 = .ok (.putfield 207, 3) := dk_181 0 207 (dk_at dksX7_wrong_0 10 rfl rfl)
theorem dX7_wrong_13 : decode cX7_wrong 13 = .ok (.aload_n 0, 1) := dk_42 (dk_at dksX7_wrong_0 13 rfl rfl)
theorem dX7_wrong_14 : decode cX7_wrong 14 = .ok (.aload_n 0, 1) := dk_42 (dk_at dksX7_wrong_0 14 rfl rfl)
theorem dX7_wrong_15 : decode cX7_wrong 15 = .ok (.getfield 178, 3) := dk_180 0 178 (dk_at dksX7_wrong_0 15 rfl rfl)
theorem dX7_wrong_18 : decode cX7_wrong 18 = .ok (.putfield 210, 3) := dk_181 0 210 (dk_at dksX7_wrong_0 18 rfl rfl)
theorem dX7_wrong_21 : decode cX7_wrong 21 = .ok (.return_, 1) := dk_177 (dk_at dksX7_wrong_0 21 rfl rfl)
abbrev cX7_readNumber : ByteArray := prog_21_method_22_code
def yX7_readNumber : MethodName := ⟨RX7, "readNumber", "(II)I"⟩
def dkwX7_readNumber_0 : List UInt8 := [42, 27, 28, 182, 0, 235, 62, 42, 180, 0, 207, 154, 0, 7, 42, 182, 0, 232, 29, 172]
abbrev dktX7_readNumber_0 : List UInt8 := dkwX7_readNumber_0 ++ []
theorem dksX7_readNumber_0 : cX7_readNumber.data.toList.drop 0 = dktX7_readNumber_0 := by decide +kernel
theorem dX7_readNumber_0 : decode cX7_readNumber 0 = .ok (.aload_n 0, 1) := dk_42 (dk_at dksX7_readNumber_0 0 rfl rfl)
theorem dX7_readNumber_1 : decode cX7_readNumber 1 = .ok (.iload_n 1, 1) := dk_27 (dk_at dksX7_readNumber_0 1 rfl rfl)
theorem dX7_readNumber_2 : decode cX7_readNumber 2 = .ok (.iload_n 2, 1) := dk_28 (dk_at dksX7_readNumber_0 2 rfl rfl)
theorem dX7_readNumber_3 : decode cX7_readNumber 3 = .ok (.invokevirtual 235, 3) := dk_182 0 235 (dk_at dksX7_readNumber_0 3 rfl rfl)
theorem dX7_readNumber_6 : decode cX7_readNumber 6 = .ok (.istore_n 3, 1) := dk_62 (dk_at dksX7_readNumber_0 6 rfl rfl)
theorem dX7_readNumber_7 : decode cX7_readNumber 7 = .ok (.aload_n 0, 1) := dk_42 (dk_at dksX7_readNumber_0 7 rfl rfl)
theorem dX7_readNumber_8 : decode cX7_readNumber 8 = .ok (.getfield 207, 3) := dk_180 0 207 (dk_at dksX7_readNumber_0 8 rfl rfl)
theorem dX7_readNumber_11 : decode cX7_readNumber 11 = .ok (.ifCond .ne 7, 3) := dk_154 0 7 (dk_at dksX7_readNumber_0 11 rfl rfl)
theorem dX7_readNumber_14 : decode cX7_readNumber 14 = .ok (.aload_n 0, 1) := dk_42 (dk_at dksX7_readNumber_0 14 rfl rfl)
theorem dX7_readNumber_15 : decode cX7_readNumber 15 = .ok (.invokevirtual 232, 3) := dk_182 0 232 (dk_at dksX7_readNumber_0 15 rfl rfl)
theorem dX7_readNumber_18 : decode cX7_readNumber 18 = .ok (.iload_n 3, 1) := dk_29 (dk_at dksX7_readNumber_0 18 rfl rfl)
theorem dX7_readNumber_19 : decode cX7_readNumber 19 = .ok (.ireturn, 1) := dk_172 (dk_at dksX7_readNumber_0 19 rfl rfl)
abbrev cX7_numberNow : ByteArray := prog_21_method_21_code
def yX7_numberNow : MethodName := ⟨RX7, "numberNow", "(II)I"⟩
def dkwX7_numberNow_3 : List UInt8 := [167, 0, 4, 3, 172]
abbrev dktX7_numberNow_3 : List UInt8 := dkwX7_numberNow_3 ++ []
def dkwX7_numberNow_2 : List UInt8 := [42, 180, 0, 191, 28, 164, 0, 8, 42, 5, 182, 0, 228, 42, 180, 0, 207, 154, 0, 10, 42, 180, 0, 191]
abbrev dktX7_numberNow_2 : List UInt8 := dkwX7_numberNow_2 ++ dktX7_numberNow_3
def dkwX7_numberNow_1 : List UInt8 := [167, 0, 37, 42, 180, 0, 204, 42, 180, 0, 178, 100, 7, 163, 0, 19, 42, 180, 0, 191, 27, 161, 0, 11]
abbrev dktX7_numberNow_1 : List UInt8 := dkwX7_numberNow_1 ++ dktX7_numberNow_2
def dkwX7_numberNow_0 : List UInt8 := [42, 180, 0, 207, 153, 0, 5, 3, 172, 42, 180, 0, 181, 5, 159, 0, 11, 42, 4, 182, 0, 228]
abbrev dktX7_numberNow_0 : List UInt8 := dkwX7_numberNow_0 ++ dktX7_numberNow_1
theorem dksX7_numberNow_0 : cX7_numberNow.data.toList.drop 0 = dktX7_numberNow_0 := by decide +kernel
theorem dksX7_numberNow_1 : cX7_numberNow.data.toList.drop 22 = dktX7_numberNow_1 := dk_seg dksX7_numberNow_0 22 rfl rfl
theorem dksX7_numberNow_2 : cX7_numberNow.data.toList.drop 46 = dktX7_numberNow_2 := dk_seg dksX7_numberNow_1 24 rfl rfl
theorem dksX7_numberNow_3 : cX7_numberNow.data.toList.drop 70 = dktX7_numberNow_3 := dk_seg dksX7_numberNow_2 24 rfl rfl
theorem dX7_numberNow_0 : decode cX7_numberNow 0 = .ok (.aload_n 0, 1) := dk_42 (dk_at dksX7_numberNow_0 0 rfl rfl)
theorem dX7_numberNow_1 : decode cX7_numberNow 1 = .ok (.getfield 207, 3) := dk_180 0 207 (dk_at dksX7_numberNow_0 1 rfl rfl)
theorem dX7_numberNow_4 : decode cX7_numberNow 4 = .ok (.ifCond .eq 5, 3) := dk_153 0 5 (dk_at dksX7_numberNow_0 4 rfl rfl)
theorem dX7_numberNow_7 : decode cX7_numberNow 7 = .ok (.iconst 0, 1) := dk_3 (dk_at dksX7_numberNow_0 7 rfl rfl)
theorem dX7_numberNow_8 : decode cX7_numberNow 8 = .ok (.ireturn, 1) := dk_172 (dk_at dksX7_numberNow_0 8 rfl rfl)
theorem dX7_numberNow_9 : decode cX7_numberNow 9 = .ok (.aload_n 0, 1) := dk_42 (dk_at dksX7_numberNow_0 9 rfl rfl)
theorem dX7_numberNow_10 : decode cX7_numberNow 10 = .ok (.getfield 181, 3) := dk_180 0 181 (dk_at dksX7_numberNow_0 10 rfl rfl)
theorem dX7_numberNow_13 : decode cX7_numberNow 13 = .ok (.iconst 2, 1) := dk_5 (dk_at dksX7_numberNow_0 13 rfl rfl)
theorem dX7_numberNow_14 : decode cX7_numberNow 14 = .ok (.if_icmp .eq 11, 3) := dk_159 0 11 (dk_at dksX7_numberNow_0 14 rfl rfl)
theorem dX7_numberNow_17 : decode cX7_numberNow 17 = .ok (.aload_n 0, 1) := dk_42 (dk_at dksX7_numberNow_0 17 rfl rfl)
theorem dX7_numberNow_18 : decode cX7_numberNow 18 = .ok (.iconst 1, 1) := dk_4 (dk_at dksX7_numberNow_0 18 rfl rfl)
theorem dX7_numberNow_19 : decode cX7_numberNow 19 = .ok (.invokevirtual 228, 3) := dk_182 0 228 (dk_at dksX7_numberNow_0 19 rfl rfl)
theorem dX7_numberNow_22 : decode cX7_numberNow 22 = .ok (.goto 37, 3) := dk_167 0 37 (dk_at dksX7_numberNow_1 0 rfl rfl)
theorem dX7_numberNow_25 : decode cX7_numberNow 25 = .ok (.aload_n 0, 1) := dk_42 (dk_at dksX7_numberNow_1 3 rfl rfl)
theorem dX7_numberNow_26 : decode cX7_numberNow 26 = .ok (.getfield 204, 3) := dk_180 0 204 (dk_at dksX7_numberNow_1 4 rfl rfl)
theorem dX7_numberNow_29 : decode cX7_numberNow 29 = .ok (.aload_n 0, 1) := dk_42 (dk_at dksX7_numberNow_1 7 rfl rfl)
theorem dX7_numberNow_30 : decode cX7_numberNow 30 = .ok (.getfield 178, 3) := dk_180 0 178 (dk_at dksX7_numberNow_1 8 rfl rfl)
theorem dX7_numberNow_33 : decode cX7_numberNow 33 = .ok (.isub, 1) := dk_100 (dk_at dksX7_numberNow_1 11 rfl rfl)
theorem dX7_numberNow_34 : decode cX7_numberNow 34 = .ok (.iconst 4, 1) := dk_7 (dk_at dksX7_numberNow_1 12 rfl rfl)
theorem dX7_numberNow_35 : decode cX7_numberNow 35 = .ok (.if_icmp .gt 19, 3) := dk_163 0 19 (dk_at dksX7_numberNow_1 13 rfl rfl)
theorem dX7_numberNow_38 : decode cX7_numberNow 38 = .ok (.aload_n 0, 1) := dk_42 (dk_at dksX7_numberNow_1 16 rfl rfl)
theorem dX7_numberNow_39 : decode cX7_numberNow 39 = .ok (.getfield 191, 3) := dk_180 0 191 (dk_at dksX7_numberNow_1 17 rfl rfl)
theorem dX7_numberNow_42 : decode cX7_numberNow 42 = .ok (.iload_n 1, 1) := dk_27 (dk_at dksX7_numberNow_1 20 rfl rfl)
theorem dX7_numberNow_43 : decode cX7_numberNow 43 = .ok (.if_icmp .lt 11, 3) := dk_161 0 11 (dk_at dksX7_numberNow_1 21 rfl rfl)
theorem dX7_numberNow_46 : decode cX7_numberNow 46 = .ok (.aload_n 0, 1) := dk_42 (dk_at dksX7_numberNow_2 0 rfl rfl)
theorem dX7_numberNow_47 : decode cX7_numberNow 47 = .ok (.getfield 191, 3) := dk_180 0 191 (dk_at dksX7_numberNow_2 1 rfl rfl)
theorem dX7_numberNow_50 : decode cX7_numberNow 50 = .ok (.iload_n 2, 1) := dk_28 (dk_at dksX7_numberNow_2 4 rfl rfl)
theorem dX7_numberNow_51 : decode cX7_numberNow 51 = .ok (.if_icmp .le 8, 3) := dk_164 0 8 (dk_at dksX7_numberNow_2 5 rfl rfl)
theorem dX7_numberNow_54 : decode cX7_numberNow 54 = .ok (.aload_n 0, 1) := dk_42 (dk_at dksX7_numberNow_2 8 rfl rfl)
theorem dX7_numberNow_55 : decode cX7_numberNow 55 = .ok (.iconst 2, 1) := dk_5 (dk_at dksX7_numberNow_2 9 rfl rfl)
theorem dX7_numberNow_56 : decode cX7_numberNow 56 = .ok (.invokevirtual 228, 3) := dk_182 0 228 (dk_at dksX7_numberNow_2 10 rfl rfl)
theorem dX7_numberNow_59 : decode cX7_numberNow 59 = .ok (.aload_n 0, 1) := dk_42 (dk_at dksX7_numberNow_2 13 rfl rfl)
theorem dX7_numberNow_60 : decode cX7_numberNow 60 = .ok (.getfield 207, 3) := dk_180 0 207 (dk_at dksX7_numberNow_2 14 rfl rfl)
theorem dX7_numberNow_63 : decode cX7_numberNow 63 = .ok (.ifCond .ne 10, 3) := dk_154 0 10 (dk_at dksX7_numberNow_2 17 rfl rfl)
theorem dX7_numberNow_66 : decode cX7_numberNow 66 = .ok (.aload_n 0, 1) := dk_42 (dk_at dksX7_numberNow_2 20 rfl rfl)
theorem dX7_numberNow_67 : decode cX7_numberNow 67 = .ok (.getfield 191, 3) := dk_180 0 191 (dk_at dksX7_numberNow_2 21 rfl rfl)
theorem dX7_numberNow_70 : decode cX7_numberNow 70 = .ok (.goto 4, 3) := dk_167 0 4 (dk_at dksX7_numberNow_3 0 rfl rfl)
theorem dX7_numberNow_73 : decode cX7_numberNow 73 = .ok (.iconst 0, 1) := dk_3 (dk_at dksX7_numberNow_3 3 rfl rfl)
theorem dX7_numberNow_74 : decode cX7_numberNow 74 = .ok (.ireturn, 1) := dk_172 (dk_at dksX7_numberNow_3 4 rfl rfl)
abbrev cX7_readExpression : ByteArray := prog_21_method_30_code
def yX7_readExpression : MethodName := ⟨RX7, "readExpression", "(I)V"⟩
def dkwX7_readExpression_4 : List UInt8 := [177]
abbrev dktX7_readExpression_4 : List UInt8 := dkwX7_readExpression_4 ++ []
def dkwX7_readExpression_3 : List UInt8 := [182, 0, 221, 153, 0, 21, 42, 182, 0, 232, 42, 27, 182, 1, 14, 42, 16, 229, 182, 0, 241, 167, 255, 231]
abbrev dktX7_readExpression_3 : List UInt8 := dkwX7_readExpression_3 ++ dktX7_readExpression_4
def dkwX7_readExpression_2 : List UInt8 := [167, 0, 14, 27, 16, 6, 160, 0, 8, 42, 5, 182, 0, 228, 42, 27, 182, 1, 14, 42, 19, 1, 17]
abbrev dktX7_readExpression_2 : List UInt8 := dkwX7_readExpression_2 ++ dktX7_readExpression_3
def dkwX7_readExpression_1 : List UInt8 := [42, 16, 40, 182, 0, 225, 153, 0, 7, 4, 167, 0, 4, 3, 61, 28, 154, 0, 11, 42, 4, 182, 0, 228]
abbrev dktX7_readExpression_1 : List UInt8 := dkwX7_readExpression_1 ++ dktX7_readExpression_2
def dkwX7_readExpression_0 : List UInt8 := [42, 180, 0, 207, 153, 0, 4, 177, 42, 180, 0, 181, 5, 159, 0, 20, 42, 180, 0, 181, 4, 159, 0, 12]
abbrev dktX7_readExpression_0 : List UInt8 := dkwX7_readExpression_0 ++ dktX7_readExpression_1
theorem dksX7_readExpression_0 : cX7_readExpression.data.toList.drop 0 = dktX7_readExpression_0 := by decide +kernel
theorem dksX7_readExpression_1 : cX7_readExpression.data.toList.drop 24 = dktX7_readExpression_1 := dk_seg dksX7_readExpression_0 24 rfl rfl
theorem dksX7_readExpression_2 : cX7_readExpression.data.toList.drop 48 = dktX7_readExpression_2 := dk_seg dksX7_readExpression_1 24 rfl rfl
theorem dksX7_readExpression_3 : cX7_readExpression.data.toList.drop 71 = dktX7_readExpression_3 := dk_seg dksX7_readExpression_2 23 rfl rfl
theorem dksX7_readExpression_4 : cX7_readExpression.data.toList.drop 95 = dktX7_readExpression_4 := dk_seg dksX7_readExpression_3 24 rfl rfl
theorem dX7_readExpression_0 : decode cX7_readExpression 0 = .ok (.aload_n 0, 1) := dk_42 (dk_at dksX7_readExpression_0 0 rfl rfl)
theorem dX7_readExpression_1 : decode cX7_readExpression 1 = .ok (.getfield 207, 3) := dk_180 0 207 (dk_at dksX7_readExpression_0 1 rfl rfl)
theorem dX7_readExpression_4 : decode cX7_readExpression 4 = .ok (.ifCond .eq 4, 3) := dk_153 0 4 (dk_at dksX7_readExpression_0 4 rfl rfl)
theorem dX7_readExpression_7 : decode cX7_readExpression 7 = .ok (.return_, 1) := dk_177 (dk_at dksX7_readExpression_0 7 rfl rfl)
theorem dX7_readExpression_8 : decode cX7_readExpression 8 = .ok (.aload_n 0, 1) := dk_42 (dk_at dksX7_readExpression_0 8 rfl rfl)
theorem dX7_readExpression_9 : decode cX7_readExpression 9 = .ok (.getfield 181, 3) := dk_180 0 181 (dk_at dksX7_readExpression_0 9 rfl rfl)
theorem dX7_readExpression_12 : decode cX7_readExpression 12 = .ok (.iconst 2, 1) := dk_5 (dk_at dksX7_readExpression_0 12 rfl rfl)
theorem dX7_readExpression_13 : decode cX7_readExpression 13 = .ok (.if_icmp .eq 20, 3) := dk_159 0 20 (dk_at dksX7_readExpression_0 13 rfl rfl)
theorem dX7_readExpression_16 : decode cX7_readExpression 16 = .ok (.aload_n 0, 1) := dk_42 (dk_at dksX7_readExpression_0 16 rfl rfl)
theorem dX7_readExpression_17 : decode cX7_readExpression 17 = .ok (.getfield 181, 3) := dk_180 0 181 (dk_at dksX7_readExpression_0 17 rfl rfl)
theorem dX7_readExpression_20 : decode cX7_readExpression 20 = .ok (.iconst 1, 1) := dk_4 (dk_at dksX7_readExpression_0 20 rfl rfl)
theorem dX7_readExpression_21 : decode cX7_readExpression 21 = .ok (.if_icmp .eq 12, 3) := dk_159 0 12 (dk_at dksX7_readExpression_0 21 rfl rfl)
theorem dX7_readExpression_24 : decode cX7_readExpression 24 = .ok (.aload_n 0, 1) := dk_42 (dk_at dksX7_readExpression_1 0 rfl rfl)
theorem dX7_readExpression_25 : decode cX7_readExpression 25 = .ok (.bipush 40, 2) := dk_16 40 (dk_at dksX7_readExpression_1 1 rfl rfl)
theorem dX7_readExpression_27 : decode cX7_readExpression 27 = .ok (.invokevirtual 225, 3) := dk_182 0 225 (dk_at dksX7_readExpression_1 3 rfl rfl)
theorem dX7_readExpression_30 : decode cX7_readExpression 30 = .ok (.ifCond .eq 7, 3) := dk_153 0 7 (dk_at dksX7_readExpression_1 6 rfl rfl)
theorem dX7_readExpression_33 : decode cX7_readExpression 33 = .ok (.iconst 1, 1) := dk_4 (dk_at dksX7_readExpression_1 9 rfl rfl)
theorem dX7_readExpression_34 : decode cX7_readExpression 34 = .ok (.goto 4, 3) := dk_167 0 4 (dk_at dksX7_readExpression_1 10 rfl rfl)
theorem dX7_readExpression_37 : decode cX7_readExpression 37 = .ok (.iconst 0, 1) := dk_3 (dk_at dksX7_readExpression_1 13 rfl rfl)
theorem dX7_readExpression_38 : decode cX7_readExpression 38 = .ok (.istore_n 2, 1) := dk_61 (dk_at dksX7_readExpression_1 14 rfl rfl)
theorem dX7_readExpression_39 : decode cX7_readExpression 39 = .ok (.iload_n 2, 1) := dk_28 (dk_at dksX7_readExpression_1 15 rfl rfl)
theorem dX7_readExpression_40 : decode cX7_readExpression 40 = .ok (.ifCond .ne 11, 3) := dk_154 0 11 (dk_at dksX7_readExpression_1 16 rfl rfl)
theorem dX7_readExpression_43 : decode cX7_readExpression 43 = .ok (.aload_n 0, 1) := dk_42 (dk_at dksX7_readExpression_1 19 rfl rfl)
theorem dX7_readExpression_44 : decode cX7_readExpression 44 = .ok (.iconst 1, 1) := dk_4 (dk_at dksX7_readExpression_1 20 rfl rfl)
theorem dX7_readExpression_45 : decode cX7_readExpression 45 = .ok (.invokevirtual 228, 3) := dk_182 0 228 (dk_at dksX7_readExpression_1 21 rfl rfl)
theorem dX7_readExpression_48 : decode cX7_readExpression 48 = .ok (.goto 14, 3) := dk_167 0 14 (dk_at dksX7_readExpression_2 0 rfl rfl)
theorem dX7_readExpression_51 : decode cX7_readExpression 51 = .ok (.iload_n 1, 1) := dk_27 (dk_at dksX7_readExpression_2 3 rfl rfl)
theorem dX7_readExpression_52 : decode cX7_readExpression 52 = .ok (.bipush 6, 2) := dk_16 6 (dk_at dksX7_readExpression_2 4 rfl rfl)
theorem dX7_readExpression_54 : decode cX7_readExpression 54 = .ok (.if_icmp .ne 8, 3) := dk_160 0 8 (dk_at dksX7_readExpression_2 6 rfl rfl)
theorem dX7_readExpression_57 : decode cX7_readExpression 57 = .ok (.aload_n 0, 1) := dk_42 (dk_at dksX7_readExpression_2 9 rfl rfl)
theorem dX7_readExpression_58 : decode cX7_readExpression 58 = .ok (.iconst 2, 1) := dk_5 (dk_at dksX7_readExpression_2 10 rfl rfl)
theorem dX7_readExpression_59 : decode cX7_readExpression 59 = .ok (.invokevirtual 228, 3) := dk_182 0 228 (dk_at dksX7_readExpression_2 11 rfl rfl)
theorem dX7_readExpression_62 : decode cX7_readExpression 62 = .ok (.aload_n 0, 1) := dk_42 (dk_at dksX7_readExpression_2 14 rfl rfl)
theorem dX7_readExpression_63 : decode cX7_readExpression 63 = .ok (.iload_n 1, 1) := dk_27 (dk_at dksX7_readExpression_2 15 rfl rfl)
theorem dX7_readExpression_64 : decode cX7_readExpression 64 = .ok (.invokevirtual 270, 3) := dk_182 1 14 (dk_at dksX7_readExpression_2 16 rfl rfl)
theorem dX7_readExpression_67 : decode cX7_readExpression 67 = .ok (.aload_n 0, 1) := dk_42 (dk_at dksX7_readExpression_2 19 rfl rfl)
theorem dX7_readExpression_68 : decode cX7_readExpression 68 = .ok (.ldc_w 273, 3) := dk_19 1 17 (dk_at dksX7_readExpression_2 20 rfl rfl)
theorem dX7_readExpression_71 : decode cX7_readExpression 71 = .ok (.invokevirtual 221, 3) := dk_182 0 221 (dk_at dksX7_readExpression_3 0 rfl rfl)
theorem dX7_readExpression_74 : decode cX7_readExpression 74 = .ok (.ifCond .eq 21, 3) := dk_153 0 21 (dk_at dksX7_readExpression_3 3 rfl rfl)
theorem dX7_readExpression_77 : decode cX7_readExpression 77 = .ok (.aload_n 0, 1) := dk_42 (dk_at dksX7_readExpression_3 6 rfl rfl)
theorem dX7_readExpression_78 : decode cX7_readExpression 78 = .ok (.invokevirtual 232, 3) := dk_182 0 232 (dk_at dksX7_readExpression_3 7 rfl rfl)
theorem dX7_readExpression_81 : decode cX7_readExpression 81 = .ok (.aload_n 0, 1) := dk_42 (dk_at dksX7_readExpression_3 10 rfl rfl)
theorem dX7_readExpression_82 : decode cX7_readExpression 82 = .ok (.iload_n 1, 1) := dk_27 (dk_at dksX7_readExpression_3 11 rfl rfl)
theorem dX7_readExpression_83 : decode cX7_readExpression 83 = .ok (.invokevirtual 270, 3) := dk_182 1 14 (dk_at dksX7_readExpression_3 12 rfl rfl)
theorem dX7_readExpression_86 : decode cX7_readExpression 86 = .ok (.aload_n 0, 1) := dk_42 (dk_at dksX7_readExpression_3 15 rfl rfl)
theorem dX7_readExpression_87 : decode cX7_readExpression 87 = .ok (.bipush (-27), 2) := dk_16 229 (dk_at dksX7_readExpression_3 16 rfl rfl)
theorem dX7_readExpression_89 : decode cX7_readExpression 89 = .ok (.invokevirtual 241, 3) := dk_182 0 241 (dk_at dksX7_readExpression_3 18 rfl rfl)
theorem dX7_readExpression_92 : decode cX7_readExpression 92 = .ok (.goto (-25), 3) := dk_167 255 231 (dk_at dksX7_readExpression_3 21 rfl rfl)
theorem dX7_readExpression_95 : decode cX7_readExpression 95 = .ok (.return_, 1) := dk_177 (dk_at dksX7_readExpression_4 0 rfl rfl)
abbrev cX7_isMarked : ByteArray := prog_21_method_19_code
def yX7_isMarked : MethodName := ⟨RX7, "isMarked", "(I)Z"⟩
def dkwX7_isMarked_1 : List UInt8 := [27, 160, 0, 7, 4, 167, 0, 4, 3, 172]
abbrev dktX7_isMarked_1 : List UInt8 := dkwX7_isMarked_1 ++ []
def dkwX7_isMarked_0 : List UInt8 := [42, 180, 0, 207, 154, 0, 28, 42, 180, 0, 181, 6, 160, 0, 20, 42, 180, 0, 76, 42, 180, 0, 178, 46]
abbrev dktX7_isMarked_0 : List UInt8 := dkwX7_isMarked_0 ++ dktX7_isMarked_1
theorem dksX7_isMarked_0 : cX7_isMarked.data.toList.drop 0 = dktX7_isMarked_0 := by decide +kernel
theorem dksX7_isMarked_1 : cX7_isMarked.data.toList.drop 24 = dktX7_isMarked_1 := dk_seg dksX7_isMarked_0 24 rfl rfl
theorem dX7_isMarked_0 : decode cX7_isMarked 0 = .ok (.aload_n 0, 1) := dk_42 (dk_at dksX7_isMarked_0 0 rfl rfl)
theorem dX7_isMarked_1 : decode cX7_isMarked 1 = .ok (.getfield 207, 3) := dk_180 0 207 (dk_at dksX7_isMarked_0 1 rfl rfl)
theorem dX7_isMarked_4 : decode cX7_isMarked 4 = .ok (.ifCond .ne 28, 3) := dk_154 0 28 (dk_at dksX7_isMarked_0 4 rfl rfl)
theorem dX7_isMarked_7 : decode cX7_isMarked 7 = .ok (.aload_n 0, 1) := dk_42 (dk_at dksX7_isMarked_0 7 rfl rfl)
theorem dX7_isMarked_8 : decode cX7_isMarked 8 = .ok (.getfield 181, 3) := dk_180 0 181 (dk_at dksX7_isMarked_0 8 rfl rfl)
theorem dX7_isMarked_11 : decode cX7_isMarked 11 = .ok (.iconst 3, 1) := dk_6 (dk_at dksX7_isMarked_0 11 rfl rfl)
theorem dX7_isMarked_12 : decode cX7_isMarked 12 = .ok (.if_icmp .ne 20, 3) := dk_160 0 20 (dk_at dksX7_isMarked_0 12 rfl rfl)
theorem dX7_isMarked_15 : decode cX7_isMarked 15 = .ok (.aload_n 0, 1) := dk_42 (dk_at dksX7_isMarked_0 15 rfl rfl)
theorem dX7_isMarked_16 : decode cX7_isMarked 16 = .ok (.getfield 76, 3) := dk_180 0 76 (dk_at dksX7_isMarked_0 16 rfl rfl)
theorem dX7_isMarked_19 : decode cX7_isMarked 19 = .ok (.aload_n 0, 1) := dk_42 (dk_at dksX7_isMarked_0 19 rfl rfl)
theorem dX7_isMarked_20 : decode cX7_isMarked 20 = .ok (.getfield 178, 3) := dk_180 0 178 (dk_at dksX7_isMarked_0 20 rfl rfl)
theorem dX7_isMarked_23 : decode cX7_isMarked 23 = .ok (.iaload, 1) := dk_46 (dk_at dksX7_isMarked_0 23 rfl rfl)
theorem dX7_isMarked_24 : decode cX7_isMarked 24 = .ok (.iload_n 1, 1) := dk_27 (dk_at dksX7_isMarked_1 0 rfl rfl)
theorem dX7_isMarked_25 : decode cX7_isMarked 25 = .ok (.if_icmp .ne 7, 3) := dk_160 0 7 (dk_at dksX7_isMarked_1 1 rfl rfl)
theorem dX7_isMarked_28 : decode cX7_isMarked 28 = .ok (.iconst 1, 1) := dk_4 (dk_at dksX7_isMarked_1 4 rfl rfl)
theorem dX7_isMarked_29 : decode cX7_isMarked 29 = .ok (.goto 4, 3) := dk_167 0 4 (dk_at dksX7_isMarked_1 5 rfl rfl)
theorem dX7_isMarked_32 : decode cX7_isMarked 32 = .ok (.iconst 0, 1) := dk_3 (dk_at dksX7_isMarked_1 8 rfl rfl)
theorem dX7_isMarked_33 : decode cX7_isMarked 33 = .ok (.ireturn, 1) := dk_172 (dk_at dksX7_isMarked_1 9 rfl rfl)
abbrev cX7_readAnd : ByteArray := prog_21_method_29_code
def yX7_readAnd : MethodName := ⟨RX7, "readAnd", "(I)V"⟩
def dkwX7_readAnd_1 : List UInt8 := [42, 16, 230, 182, 0, 241, 167, 255, 231, 177]
abbrev dktX7_readAnd_1 : List UInt8 := dkwX7_readAnd_1 ++ []
def dkwX7_readAnd_0 : List UInt8 := [42, 27, 182, 1, 9, 42, 19, 1, 12, 182, 0, 221, 153, 0, 21, 42, 182, 0, 232, 42, 27, 182, 1, 9]
abbrev dktX7_readAnd_0 : List UInt8 := dkwX7_readAnd_0 ++ dktX7_readAnd_1
theorem dksX7_readAnd_0 : cX7_readAnd.data.toList.drop 0 = dktX7_readAnd_0 := by decide +kernel
theorem dksX7_readAnd_1 : cX7_readAnd.data.toList.drop 24 = dktX7_readAnd_1 := dk_seg dksX7_readAnd_0 24 rfl rfl
theorem dX7_readAnd_0 : decode cX7_readAnd 0 = .ok (.aload_n 0, 1) := dk_42 (dk_at dksX7_readAnd_0 0 rfl rfl)
theorem dX7_readAnd_1 : decode cX7_readAnd 1 = .ok (.iload_n 1, 1) := dk_27 (dk_at dksX7_readAnd_0 1 rfl rfl)
theorem dX7_readAnd_2 : decode cX7_readAnd 2 = .ok (.invokevirtual 265, 3) := dk_182 1 9 (dk_at dksX7_readAnd_0 2 rfl rfl)
theorem dX7_readAnd_5 : decode cX7_readAnd 5 = .ok (.aload_n 0, 1) := dk_42 (dk_at dksX7_readAnd_0 5 rfl rfl)
theorem dX7_readAnd_6 : decode cX7_readAnd 6 = .ok (.ldc_w 268, 3) := dk_19 1 12 (dk_at dksX7_readAnd_0 6 rfl rfl)
theorem dX7_readAnd_9 : decode cX7_readAnd 9 = .ok (.invokevirtual 221, 3) := dk_182 0 221 (dk_at dksX7_readAnd_0 9 rfl rfl)
theorem dX7_readAnd_12 : decode cX7_readAnd 12 = .ok (.ifCond .eq 21, 3) := dk_153 0 21 (dk_at dksX7_readAnd_0 12 rfl rfl)
theorem dX7_readAnd_15 : decode cX7_readAnd 15 = .ok (.aload_n 0, 1) := dk_42 (dk_at dksX7_readAnd_0 15 rfl rfl)
theorem dX7_readAnd_16 : decode cX7_readAnd 16 = .ok (.invokevirtual 232, 3) := dk_182 0 232 (dk_at dksX7_readAnd_0 16 rfl rfl)
theorem dX7_readAnd_19 : decode cX7_readAnd 19 = .ok (.aload_n 0, 1) := dk_42 (dk_at dksX7_readAnd_0 19 rfl rfl)
theorem dX7_readAnd_20 : decode cX7_readAnd 20 = .ok (.iload_n 1, 1) := dk_27 (dk_at dksX7_readAnd_0 20 rfl rfl)
theorem dX7_readAnd_21 : decode cX7_readAnd 21 = .ok (.invokevirtual 265, 3) := dk_182 1 9 (dk_at dksX7_readAnd_0 21 rfl rfl)
theorem dX7_readAnd_24 : decode cX7_readAnd 24 = .ok (.aload_n 0, 1) := dk_42 (dk_at dksX7_readAnd_1 0 rfl rfl)
theorem dX7_readAnd_25 : decode cX7_readAnd 25 = .ok (.bipush (-26), 2) := dk_16 230 (dk_at dksX7_readAnd_1 1 rfl rfl)
theorem dX7_readAnd_27 : decode cX7_readAnd 27 = .ok (.invokevirtual 241, 3) := dk_182 0 241 (dk_at dksX7_readAnd_1 3 rfl rfl)
theorem dX7_readAnd_30 : decode cX7_readAnd 30 = .ok (.goto (-25), 3) := dk_167 255 231 (dk_at dksX7_readAnd_1 6 rfl rfl)
theorem dX7_readAnd_33 : decode cX7_readAnd 33 = .ok (.return_, 1) := dk_177 (dk_at dksX7_readAnd_1 9 rfl rfl)
abbrev cX7_readNot : ByteArray := prog_21_method_28_code
def yX7_readNot : MethodName := ⟨RX7, "readNot", "(I)V"⟩
def dkwX7_readNot_4 : List UInt8 := [182, 0, 241, 3, 62, 29, 28, 162, 0, 15, 42, 16, 228, 182, 0, 241, 132, 3, 1, 167, 255, 242, 177]
abbrev dktX7_readNot_4 : List UInt8 := dkwX7_readNot_4 ++ []
def dkwX7_readNot_3 : List UInt8 := [153, 0, 8, 16, 232, 167, 0, 5, 16, 231, 62, 42, 182, 0, 232, 42, 27, 182, 1, 6, 42, 29]
abbrev dktX7_readNot_3 : List UInt8 := dkwX7_readNot_3 ++ dktX7_readNot_4
def dkwX7_readNot_2 : List UInt8 := [16, 60, 182, 0, 225, 154, 0, 12, 42, 16, 61, 182, 0, 225, 153, 0, 34, 42, 16, 60, 182, 0, 225]
abbrev dktX7_readNot_2 : List UInt8 := dkwX7_readNot_2 ++ dktX7_readNot_3
def dkwX7_readNot_1 : List UInt8 := [132, 2, 1, 42, 180, 0, 207, 154, 255, 228, 42, 182, 0, 232, 167, 255, 221, 42, 27, 182, 1, 6, 42]
abbrev dktX7_readNot_1 : List UInt8 := dkwX7_readNot_1 ++ dktX7_readNot_2
def dkwX7_readNot_0 : List UInt8 := [3, 61, 42, 19, 1, 4, 182, 0, 221, 153, 0, 31, 28, 16, 6, 160, 0, 8, 42, 5, 182, 0, 228]
abbrev dktX7_readNot_0 : List UInt8 := dkwX7_readNot_0 ++ dktX7_readNot_1
theorem dksX7_readNot_0 : cX7_readNot.data.toList.drop 0 = dktX7_readNot_0 := by decide +kernel
theorem dksX7_readNot_1 : cX7_readNot.data.toList.drop 23 = dktX7_readNot_1 := dk_seg dksX7_readNot_0 23 rfl rfl
theorem dksX7_readNot_2 : cX7_readNot.data.toList.drop 46 = dktX7_readNot_2 := dk_seg dksX7_readNot_1 23 rfl rfl
theorem dksX7_readNot_3 : cX7_readNot.data.toList.drop 69 = dktX7_readNot_3 := dk_seg dksX7_readNot_2 23 rfl rfl
theorem dksX7_readNot_4 : cX7_readNot.data.toList.drop 91 = dktX7_readNot_4 := dk_seg dksX7_readNot_3 22 rfl rfl
theorem dX7_readNot_0 : decode cX7_readNot 0 = .ok (.iconst 0, 1) := dk_3 (dk_at dksX7_readNot_0 0 rfl rfl)
theorem dX7_readNot_1 : decode cX7_readNot 1 = .ok (.istore_n 2, 1) := dk_61 (dk_at dksX7_readNot_0 1 rfl rfl)
theorem dX7_readNot_2 : decode cX7_readNot 2 = .ok (.aload_n 0, 1) := dk_42 (dk_at dksX7_readNot_0 2 rfl rfl)
theorem dX7_readNot_3 : decode cX7_readNot 3 = .ok (.ldc_w 260, 3) := dk_19 1 4 (dk_at dksX7_readNot_0 3 rfl rfl)
theorem dX7_readNot_6 : decode cX7_readNot 6 = .ok (.invokevirtual 221, 3) := dk_182 0 221 (dk_at dksX7_readNot_0 6 rfl rfl)
theorem dX7_readNot_9 : decode cX7_readNot 9 = .ok (.ifCond .eq 31, 3) := dk_153 0 31 (dk_at dksX7_readNot_0 9 rfl rfl)
theorem dX7_readNot_12 : decode cX7_readNot 12 = .ok (.iload_n 2, 1) := dk_28 (dk_at dksX7_readNot_0 12 rfl rfl)
theorem dX7_readNot_13 : decode cX7_readNot 13 = .ok (.bipush 6, 2) := dk_16 6 (dk_at dksX7_readNot_0 13 rfl rfl)
theorem dX7_readNot_15 : decode cX7_readNot 15 = .ok (.if_icmp .ne 8, 3) := dk_160 0 8 (dk_at dksX7_readNot_0 15 rfl rfl)
theorem dX7_readNot_18 : decode cX7_readNot 18 = .ok (.aload_n 0, 1) := dk_42 (dk_at dksX7_readNot_0 18 rfl rfl)
theorem dX7_readNot_19 : decode cX7_readNot 19 = .ok (.iconst 2, 1) := dk_5 (dk_at dksX7_readNot_0 19 rfl rfl)
theorem dX7_readNot_20 : decode cX7_readNot 20 = .ok (.invokevirtual 228, 3) := dk_182 0 228 (dk_at dksX7_readNot_0 20 rfl rfl)
theorem dX7_readNot_23 : decode cX7_readNot 23 = .ok (.iinc 2 1, 3) := dk_132 2 1 (dk_at dksX7_readNot_1 0 rfl rfl)
theorem dX7_readNot_26 : decode cX7_readNot 26 = .ok (.aload_n 0, 1) := dk_42 (dk_at dksX7_readNot_1 3 rfl rfl)
theorem dX7_readNot_27 : decode cX7_readNot 27 = .ok (.getfield 207, 3) := dk_180 0 207 (dk_at dksX7_readNot_1 4 rfl rfl)
theorem dX7_readNot_30 : decode cX7_readNot 30 = .ok (.ifCond .ne (-28), 3) := dk_154 255 228 (dk_at dksX7_readNot_1 7 rfl rfl)
theorem dX7_readNot_33 : decode cX7_readNot 33 = .ok (.aload_n 0, 1) := dk_42 (dk_at dksX7_readNot_1 10 rfl rfl)
theorem dX7_readNot_34 : decode cX7_readNot 34 = .ok (.invokevirtual 232, 3) := dk_182 0 232 (dk_at dksX7_readNot_1 11 rfl rfl)
theorem dX7_readNot_37 : decode cX7_readNot 37 = .ok (.goto (-35), 3) := dk_167 255 221 (dk_at dksX7_readNot_1 14 rfl rfl)
theorem dX7_readNot_40 : decode cX7_readNot 40 = .ok (.aload_n 0, 1) := dk_42 (dk_at dksX7_readNot_1 17 rfl rfl)
theorem dX7_readNot_41 : decode cX7_readNot 41 = .ok (.iload_n 1, 1) := dk_27 (dk_at dksX7_readNot_1 18 rfl rfl)
theorem dX7_readNot_42 : decode cX7_readNot 42 = .ok (.invokevirtual 262, 3) := dk_182 1 6 (dk_at dksX7_readNot_1 19 rfl rfl)
theorem dX7_readNot_45 : decode cX7_readNot 45 = .ok (.aload_n 0, 1) := dk_42 (dk_at dksX7_readNot_1 22 rfl rfl)
theorem dX7_readNot_46 : decode cX7_readNot 46 = .ok (.bipush 60, 2) := dk_16 60 (dk_at dksX7_readNot_2 0 rfl rfl)
theorem dX7_readNot_48 : decode cX7_readNot 48 = .ok (.invokevirtual 225, 3) := dk_182 0 225 (dk_at dksX7_readNot_2 2 rfl rfl)
theorem dX7_readNot_51 : decode cX7_readNot 51 = .ok (.ifCond .ne 12, 3) := dk_154 0 12 (dk_at dksX7_readNot_2 5 rfl rfl)
theorem dX7_readNot_54 : decode cX7_readNot 54 = .ok (.aload_n 0, 1) := dk_42 (dk_at dksX7_readNot_2 8 rfl rfl)
theorem dX7_readNot_55 : decode cX7_readNot 55 = .ok (.bipush 61, 2) := dk_16 61 (dk_at dksX7_readNot_2 9 rfl rfl)
theorem dX7_readNot_57 : decode cX7_readNot 57 = .ok (.invokevirtual 225, 3) := dk_182 0 225 (dk_at dksX7_readNot_2 11 rfl rfl)
theorem dX7_readNot_60 : decode cX7_readNot 60 = .ok (.ifCond .eq 34, 3) := dk_153 0 34 (dk_at dksX7_readNot_2 14 rfl rfl)
theorem dX7_readNot_63 : decode cX7_readNot 63 = .ok (.aload_n 0, 1) := dk_42 (dk_at dksX7_readNot_2 17 rfl rfl)
theorem dX7_readNot_64 : decode cX7_readNot 64 = .ok (.bipush 60, 2) := dk_16 60 (dk_at dksX7_readNot_2 18 rfl rfl)
theorem dX7_readNot_66 : decode cX7_readNot 66 = .ok (.invokevirtual 225, 3) := dk_182 0 225 (dk_at dksX7_readNot_2 20 rfl rfl)
theorem dX7_readNot_69 : decode cX7_readNot 69 = .ok (.ifCond .eq 8, 3) := dk_153 0 8 (dk_at dksX7_readNot_3 0 rfl rfl)
theorem dX7_readNot_72 : decode cX7_readNot 72 = .ok (.bipush (-24), 2) := dk_16 232 (dk_at dksX7_readNot_3 3 rfl rfl)
theorem dX7_readNot_74 : decode cX7_readNot 74 = .ok (.goto 5, 3) := dk_167 0 5 (dk_at dksX7_readNot_3 5 rfl rfl)
theorem dX7_readNot_77 : decode cX7_readNot 77 = .ok (.bipush (-25), 2) := dk_16 231 (dk_at dksX7_readNot_3 8 rfl rfl)
theorem dX7_readNot_79 : decode cX7_readNot 79 = .ok (.istore_n 3, 1) := dk_62 (dk_at dksX7_readNot_3 10 rfl rfl)
theorem dX7_readNot_80 : decode cX7_readNot 80 = .ok (.aload_n 0, 1) := dk_42 (dk_at dksX7_readNot_3 11 rfl rfl)
theorem dX7_readNot_81 : decode cX7_readNot 81 = .ok (.invokevirtual 232, 3) := dk_182 0 232 (dk_at dksX7_readNot_3 12 rfl rfl)
theorem dX7_readNot_84 : decode cX7_readNot 84 = .ok (.aload_n 0, 1) := dk_42 (dk_at dksX7_readNot_3 15 rfl rfl)
theorem dX7_readNot_85 : decode cX7_readNot 85 = .ok (.iload_n 1, 1) := dk_27 (dk_at dksX7_readNot_3 16 rfl rfl)
theorem dX7_readNot_86 : decode cX7_readNot 86 = .ok (.invokevirtual 262, 3) := dk_182 1 6 (dk_at dksX7_readNot_3 17 rfl rfl)
theorem dX7_readNot_89 : decode cX7_readNot 89 = .ok (.aload_n 0, 1) := dk_42 (dk_at dksX7_readNot_3 20 rfl rfl)
theorem dX7_readNot_90 : decode cX7_readNot 90 = .ok (.iload_n 3, 1) := dk_29 (dk_at dksX7_readNot_3 21 rfl rfl)
theorem dX7_readNot_91 : decode cX7_readNot 91 = .ok (.invokevirtual 241, 3) := dk_182 0 241 (dk_at dksX7_readNot_4 0 rfl rfl)
theorem dX7_readNot_94 : decode cX7_readNot 94 = .ok (.iconst 0, 1) := dk_3 (dk_at dksX7_readNot_4 3 rfl rfl)
theorem dX7_readNot_95 : decode cX7_readNot 95 = .ok (.istore_n 3, 1) := dk_62 (dk_at dksX7_readNot_4 4 rfl rfl)
theorem dX7_readNot_96 : decode cX7_readNot 96 = .ok (.iload_n 3, 1) := dk_29 (dk_at dksX7_readNot_4 5 rfl rfl)
theorem dX7_readNot_97 : decode cX7_readNot 97 = .ok (.iload_n 2, 1) := dk_28 (dk_at dksX7_readNot_4 6 rfl rfl)
theorem dX7_readNot_98 : decode cX7_readNot 98 = .ok (.if_icmp .ge 15, 3) := dk_162 0 15 (dk_at dksX7_readNot_4 7 rfl rfl)
theorem dX7_readNot_101 : decode cX7_readNot 101 = .ok (.aload_n 0, 1) := dk_42 (dk_at dksX7_readNot_4 10 rfl rfl)
theorem dX7_readNot_102 : decode cX7_readNot 102 = .ok (.bipush (-28), 2) := dk_16 228 (dk_at dksX7_readNot_4 11 rfl rfl)
theorem dX7_readNot_104 : decode cX7_readNot 104 = .ok (.invokevirtual 241, 3) := dk_182 0 241 (dk_at dksX7_readNot_4 13 rfl rfl)
theorem dX7_readNot_107 : decode cX7_readNot 107 = .ok (.iinc 3 1, 3) := dk_132 3 1 (dk_at dksX7_readNot_4 16 rfl rfl)
theorem dX7_readNot_110 : decode cX7_readNot 110 = .ok (.goto (-14), 3) := dk_167 255 242 (dk_at dksX7_readNot_4 19 rfl rfl)
theorem dX7_readNot_113 : decode cX7_readNot 113 = .ok (.return_, 1) := dk_177 (dk_at dksX7_readNot_4 22 rfl rfl)
abbrev cX7_readSum : ByteArray := prog_21_method_27_code
def yX7_readSum : MethodName := ⟨RX7, "readSum", "(I)V"⟩
def dkwX7_readSum_2 : List UInt8 := [182, 1, 1, 42, 28, 182, 0, 241, 167, 255, 207, 177]
abbrev dktX7_readSum_2 : List UInt8 := dkwX7_readSum_2 ++ []
def dkwX7_readSum_1 : List UInt8 := [16, 43, 182, 0, 225, 153, 0, 8, 16, 236, 167, 0, 5, 16, 235, 61, 42, 182, 0, 232, 42, 27]
abbrev dktX7_readSum_1 : List UInt8 := dkwX7_readSum_1 ++ dktX7_readSum_2
def dkwX7_readSum_0 : List UInt8 := [42, 27, 182, 1, 1, 42, 16, 43, 182, 0, 225, 154, 0, 12, 42, 16, 45, 182, 0, 225, 153, 0, 37, 42]
abbrev dktX7_readSum_0 : List UInt8 := dkwX7_readSum_0 ++ dktX7_readSum_1
theorem dksX7_readSum_0 : cX7_readSum.data.toList.drop 0 = dktX7_readSum_0 := by decide +kernel
theorem dksX7_readSum_1 : cX7_readSum.data.toList.drop 24 = dktX7_readSum_1 := dk_seg dksX7_readSum_0 24 rfl rfl
theorem dksX7_readSum_2 : cX7_readSum.data.toList.drop 46 = dktX7_readSum_2 := dk_seg dksX7_readSum_1 22 rfl rfl
theorem dX7_readSum_0 : decode cX7_readSum 0 = .ok (.aload_n 0, 1) := dk_42 (dk_at dksX7_readSum_0 0 rfl rfl)
theorem dX7_readSum_1 : decode cX7_readSum 1 = .ok (.iload_n 1, 1) := dk_27 (dk_at dksX7_readSum_0 1 rfl rfl)
theorem dX7_readSum_2 : decode cX7_readSum 2 = .ok (.invokevirtual 257, 3) := dk_182 1 1 (dk_at dksX7_readSum_0 2 rfl rfl)
theorem dX7_readSum_5 : decode cX7_readSum 5 = .ok (.aload_n 0, 1) := dk_42 (dk_at dksX7_readSum_0 5 rfl rfl)
theorem dX7_readSum_6 : decode cX7_readSum 6 = .ok (.bipush 43, 2) := dk_16 43 (dk_at dksX7_readSum_0 6 rfl rfl)
theorem dX7_readSum_8 : decode cX7_readSum 8 = .ok (.invokevirtual 225, 3) := dk_182 0 225 (dk_at dksX7_readSum_0 8 rfl rfl)
theorem dX7_readSum_11 : decode cX7_readSum 11 = .ok (.ifCond .ne 12, 3) := dk_154 0 12 (dk_at dksX7_readSum_0 11 rfl rfl)
theorem dX7_readSum_14 : decode cX7_readSum 14 = .ok (.aload_n 0, 1) := dk_42 (dk_at dksX7_readSum_0 14 rfl rfl)
theorem dX7_readSum_15 : decode cX7_readSum 15 = .ok (.bipush 45, 2) := dk_16 45 (dk_at dksX7_readSum_0 15 rfl rfl)
theorem dX7_readSum_17 : decode cX7_readSum 17 = .ok (.invokevirtual 225, 3) := dk_182 0 225 (dk_at dksX7_readSum_0 17 rfl rfl)
theorem dX7_readSum_20 : decode cX7_readSum 20 = .ok (.ifCond .eq 37, 3) := dk_153 0 37 (dk_at dksX7_readSum_0 20 rfl rfl)
theorem dX7_readSum_23 : decode cX7_readSum 23 = .ok (.aload_n 0, 1) := dk_42 (dk_at dksX7_readSum_0 23 rfl rfl)
theorem dX7_readSum_24 : decode cX7_readSum 24 = .ok (.bipush 43, 2) := dk_16 43 (dk_at dksX7_readSum_1 0 rfl rfl)
theorem dX7_readSum_26 : decode cX7_readSum 26 = .ok (.invokevirtual 225, 3) := dk_182 0 225 (dk_at dksX7_readSum_1 2 rfl rfl)
theorem dX7_readSum_29 : decode cX7_readSum 29 = .ok (.ifCond .eq 8, 3) := dk_153 0 8 (dk_at dksX7_readSum_1 5 rfl rfl)
theorem dX7_readSum_32 : decode cX7_readSum 32 = .ok (.bipush (-20), 2) := dk_16 236 (dk_at dksX7_readSum_1 8 rfl rfl)
theorem dX7_readSum_34 : decode cX7_readSum 34 = .ok (.goto 5, 3) := dk_167 0 5 (dk_at dksX7_readSum_1 10 rfl rfl)
theorem dX7_readSum_37 : decode cX7_readSum 37 = .ok (.bipush (-21), 2) := dk_16 235 (dk_at dksX7_readSum_1 13 rfl rfl)
theorem dX7_readSum_39 : decode cX7_readSum 39 = .ok (.istore_n 2, 1) := dk_61 (dk_at dksX7_readSum_1 15 rfl rfl)
theorem dX7_readSum_40 : decode cX7_readSum 40 = .ok (.aload_n 0, 1) := dk_42 (dk_at dksX7_readSum_1 16 rfl rfl)
theorem dX7_readSum_41 : decode cX7_readSum 41 = .ok (.invokevirtual 232, 3) := dk_182 0 232 (dk_at dksX7_readSum_1 17 rfl rfl)
theorem dX7_readSum_44 : decode cX7_readSum 44 = .ok (.aload_n 0, 1) := dk_42 (dk_at dksX7_readSum_1 20 rfl rfl)
theorem dX7_readSum_45 : decode cX7_readSum 45 = .ok (.iload_n 1, 1) := dk_27 (dk_at dksX7_readSum_1 21 rfl rfl)
theorem dX7_readSum_46 : decode cX7_readSum 46 = .ok (.invokevirtual 257, 3) := dk_182 1 1 (dk_at dksX7_readSum_2 0 rfl rfl)
theorem dX7_readSum_49 : decode cX7_readSum 49 = .ok (.aload_n 0, 1) := dk_42 (dk_at dksX7_readSum_2 3 rfl rfl)
theorem dX7_readSum_50 : decode cX7_readSum 50 = .ok (.iload_n 2, 1) := dk_28 (dk_at dksX7_readSum_2 4 rfl rfl)
theorem dX7_readSum_51 : decode cX7_readSum 51 = .ok (.invokevirtual 241, 3) := dk_182 0 241 (dk_at dksX7_readSum_2 5 rfl rfl)
theorem dX7_readSum_54 : decode cX7_readSum 54 = .ok (.goto (-49), 3) := dk_167 255 207 (dk_at dksX7_readSum_2 8 rfl rfl)
theorem dX7_readSum_57 : decode cX7_readSum 57 = .ok (.return_, 1) := dk_177 (dk_at dksX7_readSum_2 11 rfl rfl)
abbrev cX7_readProduct : ByteArray := prog_21_method_26_code
def yX7_readProduct : MethodName := ⟨RX7, "readProduct", "(I)V"⟩
def dkwX7_readProduct_2 : List UInt8 := [182, 0, 254, 42, 28, 182, 0, 241, 167, 255, 207, 177]
abbrev dktX7_readProduct_2 : List UInt8 := dkwX7_readProduct_2 ++ []
def dkwX7_readProduct_1 : List UInt8 := [16, 42, 182, 0, 225, 153, 0, 8, 16, 234, 167, 0, 5, 16, 233, 61, 42, 182, 0, 232, 42, 27]
abbrev dktX7_readProduct_1 : List UInt8 := dkwX7_readProduct_1 ++ dktX7_readProduct_2
def dkwX7_readProduct_0 : List UInt8 := [42, 27, 182, 0, 254, 42, 16, 42, 182, 0, 225, 154, 0, 12, 42, 16, 47, 182, 0, 225, 153, 0, 37, 42]
abbrev dktX7_readProduct_0 : List UInt8 := dkwX7_readProduct_0 ++ dktX7_readProduct_1
theorem dksX7_readProduct_0 : cX7_readProduct.data.toList.drop 0 = dktX7_readProduct_0 := by decide +kernel
theorem dksX7_readProduct_1 : cX7_readProduct.data.toList.drop 24 = dktX7_readProduct_1 := dk_seg dksX7_readProduct_0 24 rfl rfl
theorem dksX7_readProduct_2 : cX7_readProduct.data.toList.drop 46 = dktX7_readProduct_2 := dk_seg dksX7_readProduct_1 22 rfl rfl
theorem dX7_readProduct_0 : decode cX7_readProduct 0 = .ok (.aload_n 0, 1) := dk_42 (dk_at dksX7_readProduct_0 0 rfl rfl)
theorem dX7_readProduct_1 : decode cX7_readProduct 1 = .ok (.iload_n 1, 1) := dk_27 (dk_at dksX7_readProduct_0 1 rfl rfl)
theorem dX7_readProduct_2 : decode cX7_readProduct 2 = .ok (.invokevirtual 254, 3) := dk_182 0 254 (dk_at dksX7_readProduct_0 2 rfl rfl)
theorem dX7_readProduct_5 : decode cX7_readProduct 5 = .ok (.aload_n 0, 1) := dk_42 (dk_at dksX7_readProduct_0 5 rfl rfl)
theorem dX7_readProduct_6 : decode cX7_readProduct 6 = .ok (.bipush 42, 2) := dk_16 42 (dk_at dksX7_readProduct_0 6 rfl rfl)
theorem dX7_readProduct_8 : decode cX7_readProduct 8 = .ok (.invokevirtual 225, 3) := dk_182 0 225 (dk_at dksX7_readProduct_0 8 rfl rfl)
theorem dX7_readProduct_11 : decode cX7_readProduct 11 = .ok (.ifCond .ne 12, 3) := dk_154 0 12 (dk_at dksX7_readProduct_0 11 rfl rfl)
theorem dX7_readProduct_14 : decode cX7_readProduct 14 = .ok (.aload_n 0, 1) := dk_42 (dk_at dksX7_readProduct_0 14 rfl rfl)
theorem dX7_readProduct_15 : decode cX7_readProduct 15 = .ok (.bipush 47, 2) := dk_16 47 (dk_at dksX7_readProduct_0 15 rfl rfl)
theorem dX7_readProduct_17 : decode cX7_readProduct 17 = .ok (.invokevirtual 225, 3) := dk_182 0 225 (dk_at dksX7_readProduct_0 17 rfl rfl)
theorem dX7_readProduct_20 : decode cX7_readProduct 20 = .ok (.ifCond .eq 37, 3) := dk_153 0 37 (dk_at dksX7_readProduct_0 20 rfl rfl)
theorem dX7_readProduct_23 : decode cX7_readProduct 23 = .ok (.aload_n 0, 1) := dk_42 (dk_at dksX7_readProduct_0 23 rfl rfl)
theorem dX7_readProduct_24 : decode cX7_readProduct 24 = .ok (.bipush 42, 2) := dk_16 42 (dk_at dksX7_readProduct_1 0 rfl rfl)
theorem dX7_readProduct_26 : decode cX7_readProduct 26 = .ok (.invokevirtual 225, 3) := dk_182 0 225 (dk_at dksX7_readProduct_1 2 rfl rfl)
theorem dX7_readProduct_29 : decode cX7_readProduct 29 = .ok (.ifCond .eq 8, 3) := dk_153 0 8 (dk_at dksX7_readProduct_1 5 rfl rfl)
theorem dX7_readProduct_32 : decode cX7_readProduct 32 = .ok (.bipush (-22), 2) := dk_16 234 (dk_at dksX7_readProduct_1 8 rfl rfl)
theorem dX7_readProduct_34 : decode cX7_readProduct 34 = .ok (.goto 5, 3) := dk_167 0 5 (dk_at dksX7_readProduct_1 10 rfl rfl)
theorem dX7_readProduct_37 : decode cX7_readProduct 37 = .ok (.bipush (-23), 2) := dk_16 233 (dk_at dksX7_readProduct_1 13 rfl rfl)
theorem dX7_readProduct_39 : decode cX7_readProduct 39 = .ok (.istore_n 2, 1) := dk_61 (dk_at dksX7_readProduct_1 15 rfl rfl)
theorem dX7_readProduct_40 : decode cX7_readProduct 40 = .ok (.aload_n 0, 1) := dk_42 (dk_at dksX7_readProduct_1 16 rfl rfl)
theorem dX7_readProduct_41 : decode cX7_readProduct 41 = .ok (.invokevirtual 232, 3) := dk_182 0 232 (dk_at dksX7_readProduct_1 17 rfl rfl)
theorem dX7_readProduct_44 : decode cX7_readProduct 44 = .ok (.aload_n 0, 1) := dk_42 (dk_at dksX7_readProduct_1 20 rfl rfl)
theorem dX7_readProduct_45 : decode cX7_readProduct 45 = .ok (.iload_n 1, 1) := dk_27 (dk_at dksX7_readProduct_1 21 rfl rfl)
theorem dX7_readProduct_46 : decode cX7_readProduct 46 = .ok (.invokevirtual 254, 3) := dk_182 0 254 (dk_at dksX7_readProduct_2 0 rfl rfl)
theorem dX7_readProduct_49 : decode cX7_readProduct 49 = .ok (.aload_n 0, 1) := dk_42 (dk_at dksX7_readProduct_2 3 rfl rfl)
theorem dX7_readProduct_50 : decode cX7_readProduct 50 = .ok (.iload_n 2, 1) := dk_28 (dk_at dksX7_readProduct_2 4 rfl rfl)
theorem dX7_readProduct_51 : decode cX7_readProduct 51 = .ok (.invokevirtual 241, 3) := dk_182 0 241 (dk_at dksX7_readProduct_2 5 rfl rfl)
theorem dX7_readProduct_54 : decode cX7_readProduct 54 = .ok (.goto (-49), 3) := dk_167 255 207 (dk_at dksX7_readProduct_2 8 rfl rfl)
theorem dX7_readProduct_57 : decode cX7_readProduct 57 = .ok (.return_, 1) := dk_177 (dk_at dksX7_readProduct_2 11 rfl rfl)
abbrev cX7_readPart : ByteArray := prog_21_method_25_code
def yX7_readPart : MethodName := ⟨RX7, "readPart", "(I)V"⟩
def dkwX7_readPart_4 : List UInt8 := [177]
abbrev dktX7_readPart_4 : List UInt8 := dkwX7_readPart_4 ++ []
def dkwX7_readPart_3 : List UInt8 := [42, 182, 0, 232, 177, 42, 16, 40, 182, 0, 248, 42, 27, 4, 96, 182, 0, 251, 42, 16, 41, 182, 0, 248]
abbrev dktX7_readPart_3 : List UInt8 := dkwX7_readPart_3 ++ dktX7_readPart_4
def dkwX7_readPart_2 : List UInt8 := [28, 2, 160, 0, 8, 42, 6, 182, 0, 228, 42, 2, 28, 100, 182, 0, 241, 42, 180, 0, 207, 154, 0, 7]
abbrev dktX7_readPart_2 : List UInt8 := dkwX7_readPart_2 ++ dktX7_readPart_3
def dkwX7_readPart_1 : List UInt8 := [182, 0, 238, 182, 0, 241, 177, 42, 180, 0, 181, 4, 160, 0, 41, 42, 42, 180, 0, 35, 182, 0, 244, 61]
abbrev dktX7_readPart_1 : List UInt8 := dkwX7_readPart_1 ++ dktX7_readPart_2
def dkwX7_readPart_0 : List UInt8 := [42, 180, 0, 207, 153, 0, 4, 177, 42, 180, 0, 181, 5, 160, 0, 16, 42, 42, 3, 17, 39, 15]
abbrev dktX7_readPart_0 : List UInt8 := dkwX7_readPart_0 ++ dktX7_readPart_1
theorem dksX7_readPart_0 : cX7_readPart.data.toList.drop 0 = dktX7_readPart_0 := by decide +kernel
theorem dksX7_readPart_1 : cX7_readPart.data.toList.drop 22 = dktX7_readPart_1 := dk_seg dksX7_readPart_0 22 rfl rfl
theorem dksX7_readPart_2 : cX7_readPart.data.toList.drop 46 = dktX7_readPart_2 := dk_seg dksX7_readPart_1 24 rfl rfl
theorem dksX7_readPart_3 : cX7_readPart.data.toList.drop 70 = dktX7_readPart_3 := dk_seg dksX7_readPart_2 24 rfl rfl
theorem dksX7_readPart_4 : cX7_readPart.data.toList.drop 94 = dktX7_readPart_4 := dk_seg dksX7_readPart_3 24 rfl rfl
theorem dX7_readPart_0 : decode cX7_readPart 0 = .ok (.aload_n 0, 1) := dk_42 (dk_at dksX7_readPart_0 0 rfl rfl)
theorem dX7_readPart_1 : decode cX7_readPart 1 = .ok (.getfield 207, 3) := dk_180 0 207 (dk_at dksX7_readPart_0 1 rfl rfl)
theorem dX7_readPart_4 : decode cX7_readPart 4 = .ok (.ifCond .eq 4, 3) := dk_153 0 4 (dk_at dksX7_readPart_0 4 rfl rfl)
theorem dX7_readPart_7 : decode cX7_readPart 7 = .ok (.return_, 1) := dk_177 (dk_at dksX7_readPart_0 7 rfl rfl)
theorem dX7_readPart_8 : decode cX7_readPart 8 = .ok (.aload_n 0, 1) := dk_42 (dk_at dksX7_readPart_0 8 rfl rfl)
theorem dX7_readPart_9 : decode cX7_readPart 9 = .ok (.getfield 181, 3) := dk_180 0 181 (dk_at dksX7_readPart_0 9 rfl rfl)
theorem dX7_readPart_12 : decode cX7_readPart 12 = .ok (.iconst 2, 1) := dk_5 (dk_at dksX7_readPart_0 12 rfl rfl)
theorem dX7_readPart_13 : decode cX7_readPart 13 = .ok (.if_icmp .ne 16, 3) := dk_160 0 16 (dk_at dksX7_readPart_0 13 rfl rfl)
theorem dX7_readPart_16 : decode cX7_readPart 16 = .ok (.aload_n 0, 1) := dk_42 (dk_at dksX7_readPart_0 16 rfl rfl)
theorem dX7_readPart_17 : decode cX7_readPart 17 = .ok (.aload_n 0, 1) := dk_42 (dk_at dksX7_readPart_0 17 rfl rfl)
theorem dX7_readPart_18 : decode cX7_readPart 18 = .ok (.iconst 0, 1) := dk_3 (dk_at dksX7_readPart_0 18 rfl rfl)
theorem dX7_readPart_19 : decode cX7_readPart 19 = .ok (.sipush 9999, 3) := dk_17 39 15 (dk_at dksX7_readPart_0 19 rfl rfl)
theorem dX7_readPart_22 : decode cX7_readPart 22 = .ok (.invokevirtual 238, 3) := dk_182 0 238 (dk_at dksX7_readPart_1 0 rfl rfl)
theorem dX7_readPart_25 : decode cX7_readPart 25 = .ok (.invokevirtual 241, 3) := dk_182 0 241 (dk_at dksX7_readPart_1 3 rfl rfl)
theorem dX7_readPart_28 : decode cX7_readPart 28 = .ok (.return_, 1) := dk_177 (dk_at dksX7_readPart_1 6 rfl rfl)
theorem dX7_readPart_29 : decode cX7_readPart 29 = .ok (.aload_n 0, 1) := dk_42 (dk_at dksX7_readPart_1 7 rfl rfl)
theorem dX7_readPart_30 : decode cX7_readPart 30 = .ok (.getfield 181, 3) := dk_180 0 181 (dk_at dksX7_readPart_1 8 rfl rfl)
theorem dX7_readPart_33 : decode cX7_readPart 33 = .ok (.iconst 1, 1) := dk_4 (dk_at dksX7_readPart_1 11 rfl rfl)
theorem dX7_readPart_34 : decode cX7_readPart 34 = .ok (.if_icmp .ne 41, 3) := dk_160 0 41 (dk_at dksX7_readPart_1 12 rfl rfl)
theorem dX7_readPart_37 : decode cX7_readPart 37 = .ok (.aload_n 0, 1) := dk_42 (dk_at dksX7_readPart_1 15 rfl rfl)
theorem dX7_readPart_38 : decode cX7_readPart 38 = .ok (.aload_n 0, 1) := dk_42 (dk_at dksX7_readPart_1 16 rfl rfl)
theorem dX7_readPart_39 : decode cX7_readPart 39 = .ok (.getfield 35, 3) := dk_180 0 35 (dk_at dksX7_readPart_1 17 rfl rfl)
theorem dX7_readPart_42 : decode cX7_readPart 42 = .ok (.invokevirtual 244, 3) := dk_182 0 244 (dk_at dksX7_readPart_1 20 rfl rfl)
theorem dX7_readPart_45 : decode cX7_readPart 45 = .ok (.istore_n 2, 1) := dk_61 (dk_at dksX7_readPart_1 23 rfl rfl)
theorem dX7_readPart_46 : decode cX7_readPart 46 = .ok (.iload_n 2, 1) := dk_28 (dk_at dksX7_readPart_2 0 rfl rfl)
theorem dX7_readPart_47 : decode cX7_readPart 47 = .ok (.iconst (-1), 1) := dk_2 (dk_at dksX7_readPart_2 1 rfl rfl)
theorem dX7_readPart_48 : decode cX7_readPart 48 = .ok (.if_icmp .ne 8, 3) := dk_160 0 8 (dk_at dksX7_readPart_2 2 rfl rfl)
theorem dX7_readPart_51 : decode cX7_readPart 51 = .ok (.aload_n 0, 1) := dk_42 (dk_at dksX7_readPart_2 5 rfl rfl)
theorem dX7_readPart_52 : decode cX7_readPart 52 = .ok (.iconst 3, 1) := dk_6 (dk_at dksX7_readPart_2 6 rfl rfl)
theorem dX7_readPart_53 : decode cX7_readPart 53 = .ok (.invokevirtual 228, 3) := dk_182 0 228 (dk_at dksX7_readPart_2 7 rfl rfl)
theorem dX7_readPart_56 : decode cX7_readPart 56 = .ok (.aload_n 0, 1) := dk_42 (dk_at dksX7_readPart_2 10 rfl rfl)
theorem dX7_readPart_57 : decode cX7_readPart 57 = .ok (.iconst (-1), 1) := dk_2 (dk_at dksX7_readPart_2 11 rfl rfl)
theorem dX7_readPart_58 : decode cX7_readPart 58 = .ok (.iload_n 2, 1) := dk_28 (dk_at dksX7_readPart_2 12 rfl rfl)
theorem dX7_readPart_59 : decode cX7_readPart 59 = .ok (.isub, 1) := dk_100 (dk_at dksX7_readPart_2 13 rfl rfl)
theorem dX7_readPart_60 : decode cX7_readPart 60 = .ok (.invokevirtual 241, 3) := dk_182 0 241 (dk_at dksX7_readPart_2 14 rfl rfl)
theorem dX7_readPart_63 : decode cX7_readPart 63 = .ok (.aload_n 0, 1) := dk_42 (dk_at dksX7_readPart_2 17 rfl rfl)
theorem dX7_readPart_64 : decode cX7_readPart 64 = .ok (.getfield 207, 3) := dk_180 0 207 (dk_at dksX7_readPart_2 18 rfl rfl)
theorem dX7_readPart_67 : decode cX7_readPart 67 = .ok (.ifCond .ne 7, 3) := dk_154 0 7 (dk_at dksX7_readPart_2 21 rfl rfl)
theorem dX7_readPart_70 : decode cX7_readPart 70 = .ok (.aload_n 0, 1) := dk_42 (dk_at dksX7_readPart_3 0 rfl rfl)
theorem dX7_readPart_71 : decode cX7_readPart 71 = .ok (.invokevirtual 232, 3) := dk_182 0 232 (dk_at dksX7_readPart_3 1 rfl rfl)
theorem dX7_readPart_74 : decode cX7_readPart 74 = .ok (.return_, 1) := dk_177 (dk_at dksX7_readPart_3 4 rfl rfl)
theorem dX7_readPart_75 : decode cX7_readPart 75 = .ok (.aload_n 0, 1) := dk_42 (dk_at dksX7_readPart_3 5 rfl rfl)
theorem dX7_readPart_76 : decode cX7_readPart 76 = .ok (.bipush 40, 2) := dk_16 40 (dk_at dksX7_readPart_3 6 rfl rfl)
theorem dX7_readPart_78 : decode cX7_readPart 78 = .ok (.invokevirtual 248, 3) := dk_182 0 248 (dk_at dksX7_readPart_3 8 rfl rfl)
theorem dX7_readPart_81 : decode cX7_readPart 81 = .ok (.aload_n 0, 1) := dk_42 (dk_at dksX7_readPart_3 11 rfl rfl)
theorem dX7_readPart_82 : decode cX7_readPart 82 = .ok (.iload_n 1, 1) := dk_27 (dk_at dksX7_readPart_3 12 rfl rfl)
theorem dX7_readPart_83 : decode cX7_readPart 83 = .ok (.iconst 1, 1) := dk_4 (dk_at dksX7_readPart_3 13 rfl rfl)
theorem dX7_readPart_84 : decode cX7_readPart 84 = .ok (.iadd, 1) := dk_96 (dk_at dksX7_readPart_3 14 rfl rfl)
theorem dX7_readPart_85 : decode cX7_readPart 85 = .ok (.invokevirtual 251, 3) := dk_182 0 251 (dk_at dksX7_readPart_3 15 rfl rfl)
theorem dX7_readPart_88 : decode cX7_readPart 88 = .ok (.aload_n 0, 1) := dk_42 (dk_at dksX7_readPart_3 18 rfl rfl)
theorem dX7_readPart_89 : decode cX7_readPart 89 = .ok (.bipush 41, 2) := dk_16 41 (dk_at dksX7_readPart_3 19 rfl rfl)
theorem dX7_readPart_91 : decode cX7_readPart 91 = .ok (.invokevirtual 248, 3) := dk_182 0 248 (dk_at dksX7_readPart_3 21 rfl rfl)
theorem dX7_readPart_94 : decode cX7_readPart 94 = .ok (.return_, 1) := dk_177 (dk_at dksX7_readPart_4 0 rfl rfl)
abbrev cX7_lay : ByteArray := prog_21_method_24_code
def yX7_lay : MethodName := ⟨RX7, "lay", "(I)V"⟩
def dkwX7_lay_1 : List UInt8 := [79, 42, 180, 0, 38, 16, 11, 92, 46, 4, 96, 79, 177]
abbrev dktX7_lay_1 : List UInt8 := dkwX7_lay_1 ++ []
def dkwX7_lay_0 : List UInt8 := [42, 180, 0, 207, 153, 0, 4, 177, 42, 180, 0, 70, 17, 2, 88, 42, 180, 0, 38, 16, 11, 46, 96, 27]
abbrev dktX7_lay_0 : List UInt8 := dkwX7_lay_0 ++ dktX7_lay_1
theorem dksX7_lay_0 : cX7_lay.data.toList.drop 0 = dktX7_lay_0 := by decide +kernel
theorem dksX7_lay_1 : cX7_lay.data.toList.drop 24 = dktX7_lay_1 := dk_seg dksX7_lay_0 24 rfl rfl
theorem dX7_lay_0 : decode cX7_lay 0 = .ok (.aload_n 0, 1) := dk_42 (dk_at dksX7_lay_0 0 rfl rfl)
theorem dX7_lay_1 : decode cX7_lay 1 = .ok (.getfield 207, 3) := dk_180 0 207 (dk_at dksX7_lay_0 1 rfl rfl)
theorem dX7_lay_4 : decode cX7_lay 4 = .ok (.ifCond .eq 4, 3) := dk_153 0 4 (dk_at dksX7_lay_0 4 rfl rfl)
theorem dX7_lay_7 : decode cX7_lay 7 = .ok (.return_, 1) := dk_177 (dk_at dksX7_lay_0 7 rfl rfl)
theorem dX7_lay_8 : decode cX7_lay 8 = .ok (.aload_n 0, 1) := dk_42 (dk_at dksX7_lay_0 8 rfl rfl)
theorem dX7_lay_9 : decode cX7_lay 9 = .ok (.getfield 70, 3) := dk_180 0 70 (dk_at dksX7_lay_0 9 rfl rfl)
theorem dX7_lay_12 : decode cX7_lay 12 = .ok (.sipush 600, 3) := dk_17 2 88 (dk_at dksX7_lay_0 12 rfl rfl)
theorem dX7_lay_15 : decode cX7_lay 15 = .ok (.aload_n 0, 1) := dk_42 (dk_at dksX7_lay_0 15 rfl rfl)
theorem dX7_lay_16 : decode cX7_lay 16 = .ok (.getfield 38, 3) := dk_180 0 38 (dk_at dksX7_lay_0 16 rfl rfl)
theorem dX7_lay_19 : decode cX7_lay 19 = .ok (.bipush 11, 2) := dk_16 11 (dk_at dksX7_lay_0 19 rfl rfl)
theorem dX7_lay_21 : decode cX7_lay 21 = .ok (.iaload, 1) := dk_46 (dk_at dksX7_lay_0 21 rfl rfl)
theorem dX7_lay_22 : decode cX7_lay 22 = .ok (.iadd, 1) := dk_96 (dk_at dksX7_lay_0 22 rfl rfl)
theorem dX7_lay_23 : decode cX7_lay 23 = .ok (.iload_n 1, 1) := dk_27 (dk_at dksX7_lay_0 23 rfl rfl)
theorem dX7_lay_24 : decode cX7_lay 24 = .ok (.iastore, 1) := dk_79 (dk_at dksX7_lay_1 0 rfl rfl)
theorem dX7_lay_25 : decode cX7_lay 25 = .ok (.aload_n 0, 1) := dk_42 (dk_at dksX7_lay_1 1 rfl rfl)
theorem dX7_lay_26 : decode cX7_lay 26 = .ok (.getfield 38, 3) := dk_180 0 38 (dk_at dksX7_lay_1 2 rfl rfl)
theorem dX7_lay_29 : decode cX7_lay 29 = .ok (.bipush 11, 2) := dk_16 11 (dk_at dksX7_lay_1 5 rfl rfl)
theorem dX7_lay_31 : decode cX7_lay 31 = .ok (.dup2, 1) := dk_92 (dk_at dksX7_lay_1 7 rfl rfl)
theorem dX7_lay_32 : decode cX7_lay 32 = .ok (.iaload, 1) := dk_46 (dk_at dksX7_lay_1 8 rfl rfl)
theorem dX7_lay_33 : decode cX7_lay 33 = .ok (.iconst 1, 1) := dk_4 (dk_at dksX7_lay_1 9 rfl rfl)
theorem dX7_lay_34 : decode cX7_lay 34 = .ok (.iadd, 1) := dk_96 (dk_at dksX7_lay_1 10 rfl rfl)
theorem dX7_lay_35 : decode cX7_lay 35 = .ok (.iastore, 1) := dk_79 (dk_at dksX7_lay_1 11 rfl rfl)
theorem dX7_lay_36 : decode cX7_lay 36 = .ok (.return_, 1) := dk_177 (dk_at dksX7_lay_1 12 rfl rfl)
abbrev cX7_mark : ByteArray := prog_21_method_20_code
def yX7_mark : MethodName := ⟨RX7, "mark", "(I)V"⟩
def dkwX7_mark_1 : List UInt8 := [154, 0, 7, 42, 182, 0, 232, 177]
abbrev dktX7_mark_1 : List UInt8 := dkwX7_mark_1 ++ []
def dkwX7_mark_0 : List UInt8 := [42, 180, 0, 207, 154, 0, 16, 42, 27, 182, 0, 225, 154, 0, 8, 42, 4, 182, 0, 228, 42, 180, 0, 207]
abbrev dktX7_mark_0 : List UInt8 := dkwX7_mark_0 ++ dktX7_mark_1
theorem dksX7_mark_0 : cX7_mark.data.toList.drop 0 = dktX7_mark_0 := by decide +kernel
theorem dksX7_mark_1 : cX7_mark.data.toList.drop 24 = dktX7_mark_1 := dk_seg dksX7_mark_0 24 rfl rfl
theorem dX7_mark_0 : decode cX7_mark 0 = .ok (.aload_n 0, 1) := dk_42 (dk_at dksX7_mark_0 0 rfl rfl)
theorem dX7_mark_1 : decode cX7_mark 1 = .ok (.getfield 207, 3) := dk_180 0 207 (dk_at dksX7_mark_0 1 rfl rfl)
theorem dX7_mark_4 : decode cX7_mark 4 = .ok (.ifCond .ne 16, 3) := dk_154 0 16 (dk_at dksX7_mark_0 4 rfl rfl)
theorem dX7_mark_7 : decode cX7_mark 7 = .ok (.aload_n 0, 1) := dk_42 (dk_at dksX7_mark_0 7 rfl rfl)
theorem dX7_mark_8 : decode cX7_mark 8 = .ok (.iload_n 1, 1) := dk_27 (dk_at dksX7_mark_0 8 rfl rfl)
theorem dX7_mark_9 : decode cX7_mark 9 = .ok (.invokevirtual 225, 3) := dk_182 0 225 (dk_at dksX7_mark_0 9 rfl rfl)
theorem dX7_mark_12 : decode cX7_mark 12 = .ok (.ifCond .ne 8, 3) := dk_154 0 8 (dk_at dksX7_mark_0 12 rfl rfl)
theorem dX7_mark_15 : decode cX7_mark 15 = .ok (.aload_n 0, 1) := dk_42 (dk_at dksX7_mark_0 15 rfl rfl)
theorem dX7_mark_16 : decode cX7_mark 16 = .ok (.iconst 1, 1) := dk_4 (dk_at dksX7_mark_0 16 rfl rfl)
theorem dX7_mark_17 : decode cX7_mark 17 = .ok (.invokevirtual 228, 3) := dk_182 0 228 (dk_at dksX7_mark_0 17 rfl rfl)
theorem dX7_mark_20 : decode cX7_mark 20 = .ok (.aload_n 0, 1) := dk_42 (dk_at dksX7_mark_0 20 rfl rfl)
theorem dX7_mark_21 : decode cX7_mark 21 = .ok (.getfield 207, 3) := dk_180 0 207 (dk_at dksX7_mark_0 21 rfl rfl)
theorem dX7_mark_24 : decode cX7_mark 24 = .ok (.ifCond .ne 7, 3) := dk_154 0 7 (dk_at dksX7_mark_1 0 rfl rfl)
theorem dX7_mark_27 : decode cX7_mark 27 = .ok (.aload_n 0, 1) := dk_42 (dk_at dksX7_mark_1 3 rfl rfl)
theorem dX7_mark_28 : decode cX7_mark 28 = .ok (.invokevirtual 232, 3) := dk_182 0 232 (dk_at dksX7_mark_1 4 rfl rfl)
theorem dX7_mark_31 : decode cX7_mark 31 = .ok (.return_, 1) := dk_177 (dk_at dksX7_mark_1 7 rfl rfl)
abbrev cX7_readPerson : ByteArray := prog_21_method_31_code
def yX7_readPerson : MethodName := ⟨RX7, "readPerson", "(I)V"⟩
def dkwX7_readPerson_5 : List UInt8 := [79, 177]
abbrev dktX7_readPerson_5 : List UInt8 := dkwX7_readPerson_5 ++ []
def dkwX7_readPerson_4 : List UInt8 := [79, 42, 180, 0, 47, 28, 42, 3, 16, 9, 182, 0, 238, 79, 42, 180, 0, 38, 16, 6, 92, 46, 4, 96]
abbrev dktX7_readPerson_4 : List UInt8 := dkwX7_readPerson_4 ++ dktX7_readPerson_5
def dkwX7_readPerson_3 : List UInt8 := [177, 42, 182, 0, 232, 42, 180, 0, 42, 28, 27, 79, 42, 180, 0, 44, 28, 42, 3, 16, 9, 182, 0, 238]
abbrev dktX7_readPerson_3 : List UInt8 := dkwX7_readPerson_3 ++ dktX7_readPerson_4
def dkwX7_readPerson_2 : List UInt8 := [180, 0, 42, 28, 4, 100, 46, 6, 160, 0, 9, 42, 16, 6, 182, 0, 228, 42, 180, 0, 207, 153, 0, 4]
abbrev dktX7_readPerson_2 : List UInt8 := dkwX7_readPerson_2 ++ dktX7_readPerson_3
def dkwX7_readPerson_1 : List UInt8 := [5, 182, 0, 228, 167, 0, 36, 27, 6, 160, 0, 31, 42, 180, 0, 38, 16, 6, 46, 153, 0, 15, 42]
abbrev dktX7_readPerson_1 : List UInt8 := dkwX7_readPerson_1 ++ dktX7_readPerson_2
def dkwX7_readPerson_0 : List UInt8 := [16, 8, 42, 180, 0, 38, 16, 6, 46, 96, 61, 42, 180, 0, 38, 16, 6, 46, 16, 8, 160, 0, 11, 42]
abbrev dktX7_readPerson_0 : List UInt8 := dkwX7_readPerson_0 ++ dktX7_readPerson_1
theorem dksX7_readPerson_0 : cX7_readPerson.data.toList.drop 0 = dktX7_readPerson_0 := by decide +kernel
theorem dksX7_readPerson_1 : cX7_readPerson.data.toList.drop 24 = dktX7_readPerson_1 := dk_seg dksX7_readPerson_0 24 rfl rfl
theorem dksX7_readPerson_2 : cX7_readPerson.data.toList.drop 47 = dktX7_readPerson_2 := dk_seg dksX7_readPerson_1 23 rfl rfl
theorem dksX7_readPerson_3 : cX7_readPerson.data.toList.drop 71 = dktX7_readPerson_3 := dk_seg dksX7_readPerson_2 24 rfl rfl
theorem dksX7_readPerson_4 : cX7_readPerson.data.toList.drop 95 = dktX7_readPerson_4 := dk_seg dksX7_readPerson_3 24 rfl rfl
theorem dksX7_readPerson_5 : cX7_readPerson.data.toList.drop 119 = dktX7_readPerson_5 := dk_seg dksX7_readPerson_4 24 rfl rfl
theorem dX7_readPerson_0 : decode cX7_readPerson 0 = .ok (.bipush 8, 2) := dk_16 8 (dk_at dksX7_readPerson_0 0 rfl rfl)
theorem dX7_readPerson_2 : decode cX7_readPerson 2 = .ok (.aload_n 0, 1) := dk_42 (dk_at dksX7_readPerson_0 2 rfl rfl)
theorem dX7_readPerson_3 : decode cX7_readPerson 3 = .ok (.getfield 38, 3) := dk_180 0 38 (dk_at dksX7_readPerson_0 3 rfl rfl)
theorem dX7_readPerson_6 : decode cX7_readPerson 6 = .ok (.bipush 6, 2) := dk_16 6 (dk_at dksX7_readPerson_0 6 rfl rfl)
theorem dX7_readPerson_8 : decode cX7_readPerson 8 = .ok (.iaload, 1) := dk_46 (dk_at dksX7_readPerson_0 8 rfl rfl)
theorem dX7_readPerson_9 : decode cX7_readPerson 9 = .ok (.iadd, 1) := dk_96 (dk_at dksX7_readPerson_0 9 rfl rfl)
theorem dX7_readPerson_10 : decode cX7_readPerson 10 = .ok (.istore_n 2, 1) := dk_61 (dk_at dksX7_readPerson_0 10 rfl rfl)
theorem dX7_readPerson_11 : decode cX7_readPerson 11 = .ok (.aload_n 0, 1) := dk_42 (dk_at dksX7_readPerson_0 11 rfl rfl)
theorem dX7_readPerson_12 : decode cX7_readPerson 12 = .ok (.getfield 38, 3) := dk_180 0 38 (dk_at dksX7_readPerson_0 12 rfl rfl)
theorem dX7_readPerson_15 : decode cX7_readPerson 15 = .ok (.bipush 6, 2) := dk_16 6 (dk_at dksX7_readPerson_0 15 rfl rfl)
theorem dX7_readPerson_17 : decode cX7_readPerson 17 = .ok (.iaload, 1) := dk_46 (dk_at dksX7_readPerson_0 17 rfl rfl)
theorem dX7_readPerson_18 : decode cX7_readPerson 18 = .ok (.bipush 8, 2) := dk_16 8 (dk_at dksX7_readPerson_0 18 rfl rfl)
theorem dX7_readPerson_20 : decode cX7_readPerson 20 = .ok (.if_icmp .ne 11, 3) := dk_160 0 11 (dk_at dksX7_readPerson_0 20 rfl rfl)
theorem dX7_readPerson_23 : decode cX7_readPerson 23 = .ok (.aload_n 0, 1) := dk_42 (dk_at dksX7_readPerson_0 23 rfl rfl)
theorem dX7_readPerson_24 : decode cX7_readPerson 24 = .ok (.iconst 2, 1) := dk_5 (dk_at dksX7_readPerson_1 0 rfl rfl)
theorem dX7_readPerson_25 : decode cX7_readPerson 25 = .ok (.invokevirtual 228, 3) := dk_182 0 228 (dk_at dksX7_readPerson_1 1 rfl rfl)
theorem dX7_readPerson_28 : decode cX7_readPerson 28 = .ok (.goto 36, 3) := dk_167 0 36 (dk_at dksX7_readPerson_1 4 rfl rfl)
theorem dX7_readPerson_31 : decode cX7_readPerson 31 = .ok (.iload_n 1, 1) := dk_27 (dk_at dksX7_readPerson_1 7 rfl rfl)
theorem dX7_readPerson_32 : decode cX7_readPerson 32 = .ok (.iconst 3, 1) := dk_6 (dk_at dksX7_readPerson_1 8 rfl rfl)
theorem dX7_readPerson_33 : decode cX7_readPerson 33 = .ok (.if_icmp .ne 31, 3) := dk_160 0 31 (dk_at dksX7_readPerson_1 9 rfl rfl)
theorem dX7_readPerson_36 : decode cX7_readPerson 36 = .ok (.aload_n 0, 1) := dk_42 (dk_at dksX7_readPerson_1 12 rfl rfl)
theorem dX7_readPerson_37 : decode cX7_readPerson 37 = .ok (.getfield 38, 3) := dk_180 0 38 (dk_at dksX7_readPerson_1 13 rfl rfl)
theorem dX7_readPerson_40 : decode cX7_readPerson 40 = .ok (.bipush 6, 2) := dk_16 6 (dk_at dksX7_readPerson_1 16 rfl rfl)
theorem dX7_readPerson_42 : decode cX7_readPerson 42 = .ok (.iaload, 1) := dk_46 (dk_at dksX7_readPerson_1 18 rfl rfl)
theorem dX7_readPerson_43 : decode cX7_readPerson 43 = .ok (.ifCond .eq 15, 3) := dk_153 0 15 (dk_at dksX7_readPerson_1 19 rfl rfl)
theorem dX7_readPerson_46 : decode cX7_readPerson 46 = .ok (.aload_n 0, 1) := dk_42 (dk_at dksX7_readPerson_1 22 rfl rfl)
theorem dX7_readPerson_47 : decode cX7_readPerson 47 = .ok (.getfield 42, 3) := dk_180 0 42 (dk_at dksX7_readPerson_2 0 rfl rfl)
theorem dX7_readPerson_50 : decode cX7_readPerson 50 = .ok (.iload_n 2, 1) := dk_28 (dk_at dksX7_readPerson_2 3 rfl rfl)
theorem dX7_readPerson_51 : decode cX7_readPerson 51 = .ok (.iconst 1, 1) := dk_4 (dk_at dksX7_readPerson_2 4 rfl rfl)
theorem dX7_readPerson_52 : decode cX7_readPerson 52 = .ok (.isub, 1) := dk_100 (dk_at dksX7_readPerson_2 5 rfl rfl)
theorem dX7_readPerson_53 : decode cX7_readPerson 53 = .ok (.iaload, 1) := dk_46 (dk_at dksX7_readPerson_2 6 rfl rfl)
theorem dX7_readPerson_54 : decode cX7_readPerson 54 = .ok (.iconst 3, 1) := dk_6 (dk_at dksX7_readPerson_2 7 rfl rfl)
theorem dX7_readPerson_55 : decode cX7_readPerson 55 = .ok (.if_icmp .ne 9, 3) := dk_160 0 9 (dk_at dksX7_readPerson_2 8 rfl rfl)
theorem dX7_readPerson_58 : decode cX7_readPerson 58 = .ok (.aload_n 0, 1) := dk_42 (dk_at dksX7_readPerson_2 11 rfl rfl)
theorem dX7_readPerson_59 : decode cX7_readPerson 59 = .ok (.bipush 6, 2) := dk_16 6 (dk_at dksX7_readPerson_2 12 rfl rfl)
theorem dX7_readPerson_61 : decode cX7_readPerson 61 = .ok (.invokevirtual 228, 3) := dk_182 0 228 (dk_at dksX7_readPerson_2 14 rfl rfl)
theorem dX7_readPerson_64 : decode cX7_readPerson 64 = .ok (.aload_n 0, 1) := dk_42 (dk_at dksX7_readPerson_2 17 rfl rfl)
theorem dX7_readPerson_65 : decode cX7_readPerson 65 = .ok (.getfield 207, 3) := dk_180 0 207 (dk_at dksX7_readPerson_2 18 rfl rfl)
theorem dX7_readPerson_68 : decode cX7_readPerson 68 = .ok (.ifCond .eq 4, 3) := dk_153 0 4 (dk_at dksX7_readPerson_2 21 rfl rfl)
theorem dX7_readPerson_71 : decode cX7_readPerson 71 = .ok (.return_, 1) := dk_177 (dk_at dksX7_readPerson_3 0 rfl rfl)
theorem dX7_readPerson_72 : decode cX7_readPerson 72 = .ok (.aload_n 0, 1) := dk_42 (dk_at dksX7_readPerson_3 1 rfl rfl)
theorem dX7_readPerson_73 : decode cX7_readPerson 73 = .ok (.invokevirtual 232, 3) := dk_182 0 232 (dk_at dksX7_readPerson_3 2 rfl rfl)
theorem dX7_readPerson_76 : decode cX7_readPerson 76 = .ok (.aload_n 0, 1) := dk_42 (dk_at dksX7_readPerson_3 5 rfl rfl)
theorem dX7_readPerson_77 : decode cX7_readPerson 77 = .ok (.getfield 42, 3) := dk_180 0 42 (dk_at dksX7_readPerson_3 6 rfl rfl)
theorem dX7_readPerson_80 : decode cX7_readPerson 80 = .ok (.iload_n 2, 1) := dk_28 (dk_at dksX7_readPerson_3 9 rfl rfl)
theorem dX7_readPerson_81 : decode cX7_readPerson 81 = .ok (.iload_n 1, 1) := dk_27 (dk_at dksX7_readPerson_3 10 rfl rfl)
theorem dX7_readPerson_82 : decode cX7_readPerson 82 = .ok (.iastore, 1) := dk_79 (dk_at dksX7_readPerson_3 11 rfl rfl)
theorem dX7_readPerson_83 : decode cX7_readPerson 83 = .ok (.aload_n 0, 1) := dk_42 (dk_at dksX7_readPerson_3 12 rfl rfl)
theorem dX7_readPerson_84 : decode cX7_readPerson 84 = .ok (.getfield 44, 3) := dk_180 0 44 (dk_at dksX7_readPerson_3 13 rfl rfl)
theorem dX7_readPerson_87 : decode cX7_readPerson 87 = .ok (.iload_n 2, 1) := dk_28 (dk_at dksX7_readPerson_3 16 rfl rfl)
theorem dX7_readPerson_88 : decode cX7_readPerson 88 = .ok (.aload_n 0, 1) := dk_42 (dk_at dksX7_readPerson_3 17 rfl rfl)
theorem dX7_readPerson_89 : decode cX7_readPerson 89 = .ok (.iconst 0, 1) := dk_3 (dk_at dksX7_readPerson_3 18 rfl rfl)
theorem dX7_readPerson_90 : decode cX7_readPerson 90 = .ok (.bipush 9, 2) := dk_16 9 (dk_at dksX7_readPerson_3 19 rfl rfl)
theorem dX7_readPerson_92 : decode cX7_readPerson 92 = .ok (.invokevirtual 238, 3) := dk_182 0 238 (dk_at dksX7_readPerson_3 21 rfl rfl)
theorem dX7_readPerson_95 : decode cX7_readPerson 95 = .ok (.iastore, 1) := dk_79 (dk_at dksX7_readPerson_4 0 rfl rfl)
theorem dX7_readPerson_96 : decode cX7_readPerson 96 = .ok (.aload_n 0, 1) := dk_42 (dk_at dksX7_readPerson_4 1 rfl rfl)
theorem dX7_readPerson_97 : decode cX7_readPerson 97 = .ok (.getfield 47, 3) := dk_180 0 47 (dk_at dksX7_readPerson_4 2 rfl rfl)
theorem dX7_readPerson_100 : decode cX7_readPerson 100 = .ok (.iload_n 2, 1) := dk_28 (dk_at dksX7_readPerson_4 5 rfl rfl)
theorem dX7_readPerson_101 : decode cX7_readPerson 101 = .ok (.aload_n 0, 1) := dk_42 (dk_at dksX7_readPerson_4 6 rfl rfl)
theorem dX7_readPerson_102 : decode cX7_readPerson 102 = .ok (.iconst 0, 1) := dk_3 (dk_at dksX7_readPerson_4 7 rfl rfl)
theorem dX7_readPerson_103 : decode cX7_readPerson 103 = .ok (.bipush 9, 2) := dk_16 9 (dk_at dksX7_readPerson_4 8 rfl rfl)
theorem dX7_readPerson_105 : decode cX7_readPerson 105 = .ok (.invokevirtual 238, 3) := dk_182 0 238 (dk_at dksX7_readPerson_4 10 rfl rfl)
theorem dX7_readPerson_108 : decode cX7_readPerson 108 = .ok (.iastore, 1) := dk_79 (dk_at dksX7_readPerson_4 13 rfl rfl)
theorem dX7_readPerson_109 : decode cX7_readPerson 109 = .ok (.aload_n 0, 1) := dk_42 (dk_at dksX7_readPerson_4 14 rfl rfl)
theorem dX7_readPerson_110 : decode cX7_readPerson 110 = .ok (.getfield 38, 3) := dk_180 0 38 (dk_at dksX7_readPerson_4 15 rfl rfl)
theorem dX7_readPerson_113 : decode cX7_readPerson 113 = .ok (.bipush 6, 2) := dk_16 6 (dk_at dksX7_readPerson_4 18 rfl rfl)
theorem dX7_readPerson_115 : decode cX7_readPerson 115 = .ok (.dup2, 1) := dk_92 (dk_at dksX7_readPerson_4 20 rfl rfl)
theorem dX7_readPerson_116 : decode cX7_readPerson 116 = .ok (.iaload, 1) := dk_46 (dk_at dksX7_readPerson_4 21 rfl rfl)
theorem dX7_readPerson_117 : decode cX7_readPerson 117 = .ok (.iconst 1, 1) := dk_4 (dk_at dksX7_readPerson_4 22 rfl rfl)
theorem dX7_readPerson_118 : decode cX7_readPerson 118 = .ok (.iadd, 1) := dk_96 (dk_at dksX7_readPerson_4 23 rfl rfl)
theorem dX7_readPerson_119 : decode cX7_readPerson 119 = .ok (.iastore, 1) := dk_79 (dk_at dksX7_readPerson_5 0 rfl rfl)
theorem dX7_readPerson_120 : decode cX7_readPerson 120 = .ok (.return_, 1) := dk_177 (dk_at dksX7_readPerson_5 1 rfl rfl)
abbrev cX7_readLoaf : ByteArray := prog_21_method_32_code
def yX7_readLoaf : MethodName := ⟨RX7, "readLoaf", "()V"⟩
def dkwX7_readLoaf_9 : List UInt8 := [42, 180, 0, 61, 27, 28, 79, 42, 180, 0, 38, 16, 7, 92, 46, 4, 96, 79, 177]
abbrev dktX7_readLoaf_9 : List UInt8 := dkwX7_readLoaf_9 ++ []
def dkwX7_readLoaf_8 : List UInt8 := [62, 42, 180, 0, 64, 16, 6, 27, 104, 28, 96, 21, 4, 79, 132, 2, 1, 42, 182, 0, 232, 167, 255, 166]
abbrev dktX7_readLoaf_8 : List UInt8 := dkwX7_readLoaf_8 ++ dktX7_readLoaf_9
def dkwX7_readLoaf_7 : List UInt8 := [153, 0, 8, 42, 7, 182, 0, 228, 42, 180, 0, 207, 153, 0, 6, 167, 255, 196, 29, 4, 21, 4, 120, 128]
abbrev dktX7_readLoaf_7 : List UInt8 := dkwX7_readLoaf_7 ++ dktX7_readLoaf_8
def dkwX7_readLoaf_6 : List UInt8 := [182, 0, 228, 42, 182, 1, 19, 54, 4, 42, 180, 0, 207, 154, 0, 17, 29, 21, 4, 184, 1, 22]
abbrev dktX7_readLoaf_6 : List UInt8 := dkwX7_readLoaf_6 ++ dktX7_readLoaf_7
def dkwX7_readLoaf_5 : List UInt8 := [180, 0, 207, 154, 0, 89, 42, 180, 0, 181, 5, 160, 0, 81, 28, 16, 6, 160, 0, 8, 42, 5]
abbrev dktX7_readLoaf_5 : List UInt8 := dkwX7_readLoaf_5 ++ dktX7_readLoaf_6
def dkwX7_readLoaf_4 : List UInt8 := [3, 62, 42, 180, 0, 207, 154, 0, 16, 42, 180, 0, 181, 5, 159, 0, 8, 42, 4, 182, 0, 228, 42]
abbrev dktX7_readLoaf_4 : List UInt8 := dkwX7_readLoaf_4 ++ dktX7_readLoaf_5
def dkwX7_readLoaf_3 : List UInt8 := [27, 42, 3, 16, 23, 182, 0, 238, 79, 42, 180, 0, 58, 27, 42, 4, 16, 23, 182, 0, 238, 79, 3, 61]
abbrev dktX7_readLoaf_3 : List UInt8 := dkwX7_readLoaf_3 ++ dktX7_readLoaf_4
def dkwX7_readLoaf_2 : List UInt8 := [16, 9, 182, 0, 238, 79, 42, 180, 0, 52, 27, 42, 4, 17, 3, 231, 182, 0, 238, 79, 42, 180, 0, 55]
abbrev dktX7_readLoaf_2 : List UInt8 := dkwX7_readLoaf_2 ++ dktX7_readLoaf_3
def dkwX7_readLoaf_1 : List UInt8 := [177, 42, 182, 0, 232, 16, 6, 42, 180, 0, 38, 16, 7, 46, 96, 60, 42, 180, 0, 49, 27, 42, 3]
abbrev dktX7_readLoaf_1 : List UInt8 := dkwX7_readLoaf_1 ++ dktX7_readLoaf_2
def dkwX7_readLoaf_0 : List UInt8 := [42, 180, 0, 38, 16, 7, 46, 16, 6, 160, 0, 8, 42, 5, 182, 0, 228, 42, 180, 0, 207, 153, 0, 4]
abbrev dktX7_readLoaf_0 : List UInt8 := dkwX7_readLoaf_0 ++ dktX7_readLoaf_1
theorem dksX7_readLoaf_0 : cX7_readLoaf.data.toList.drop 0 = dktX7_readLoaf_0 := by decide +kernel
theorem dksX7_readLoaf_1 : cX7_readLoaf.data.toList.drop 24 = dktX7_readLoaf_1 := dk_seg dksX7_readLoaf_0 24 rfl rfl
theorem dksX7_readLoaf_2 : cX7_readLoaf.data.toList.drop 47 = dktX7_readLoaf_2 := dk_seg dksX7_readLoaf_1 23 rfl rfl
theorem dksX7_readLoaf_3 : cX7_readLoaf.data.toList.drop 71 = dktX7_readLoaf_3 := dk_seg dksX7_readLoaf_2 24 rfl rfl
theorem dksX7_readLoaf_4 : cX7_readLoaf.data.toList.drop 95 = dktX7_readLoaf_4 := dk_seg dksX7_readLoaf_3 24 rfl rfl
theorem dksX7_readLoaf_5 : cX7_readLoaf.data.toList.drop 118 = dktX7_readLoaf_5 := dk_seg dksX7_readLoaf_4 23 rfl rfl
theorem dksX7_readLoaf_6 : cX7_readLoaf.data.toList.drop 140 = dktX7_readLoaf_6 := dk_seg dksX7_readLoaf_5 22 rfl rfl
theorem dksX7_readLoaf_7 : cX7_readLoaf.data.toList.drop 162 = dktX7_readLoaf_7 := dk_seg dksX7_readLoaf_6 22 rfl rfl
theorem dksX7_readLoaf_8 : cX7_readLoaf.data.toList.drop 186 = dktX7_readLoaf_8 := dk_seg dksX7_readLoaf_7 24 rfl rfl
theorem dksX7_readLoaf_9 : cX7_readLoaf.data.toList.drop 210 = dktX7_readLoaf_9 := dk_seg dksX7_readLoaf_8 24 rfl rfl
theorem dX7_readLoaf_0 : decode cX7_readLoaf 0 = .ok (.aload_n 0, 1) := dk_42 (dk_at dksX7_readLoaf_0 0 rfl rfl)
theorem dX7_readLoaf_1 : decode cX7_readLoaf 1 = .ok (.getfield 38, 3) := dk_180 0 38 (dk_at dksX7_readLoaf_0 1 rfl rfl)
theorem dX7_readLoaf_4 : decode cX7_readLoaf 4 = .ok (.bipush 7, 2) := dk_16 7 (dk_at dksX7_readLoaf_0 4 rfl rfl)
theorem dX7_readLoaf_6 : decode cX7_readLoaf 6 = .ok (.iaload, 1) := dk_46 (dk_at dksX7_readLoaf_0 6 rfl rfl)
theorem dX7_readLoaf_7 : decode cX7_readLoaf 7 = .ok (.bipush 6, 2) := dk_16 6 (dk_at dksX7_readLoaf_0 7 rfl rfl)
theorem dX7_readLoaf_9 : decode cX7_readLoaf 9 = .ok (.if_icmp .ne 8, 3) := dk_160 0 8 (dk_at dksX7_readLoaf_0 9 rfl rfl)
theorem dX7_readLoaf_12 : decode cX7_readLoaf 12 = .ok (.aload_n 0, 1) := dk_42 (dk_at dksX7_readLoaf_0 12 rfl rfl)
theorem dX7_readLoaf_13 : decode cX7_readLoaf 13 = .ok (.iconst 2, 1) := dk_5 (dk_at dksX7_readLoaf_0 13 rfl rfl)
theorem dX7_readLoaf_14 : decode cX7_readLoaf 14 = .ok (.invokevirtual 228, 3) := dk_182 0 228 (dk_at dksX7_readLoaf_0 14 rfl rfl)
theorem dX7_readLoaf_17 : decode cX7_readLoaf 17 = .ok (.aload_n 0, 1) := dk_42 (dk_at dksX7_readLoaf_0 17 rfl rfl)
theorem dX7_readLoaf_18 : decode cX7_readLoaf 18 = .ok (.getfield 207, 3) := dk_180 0 207 (dk_at dksX7_readLoaf_0 18 rfl rfl)
theorem dX7_readLoaf_21 : decode cX7_readLoaf 21 = .ok (.ifCond .eq 4, 3) := dk_153 0 4 (dk_at dksX7_readLoaf_0 21 rfl rfl)
theorem dX7_readLoaf_24 : decode cX7_readLoaf 24 = .ok (.return_, 1) := dk_177 (dk_at dksX7_readLoaf_1 0 rfl rfl)
theorem dX7_readLoaf_25 : decode cX7_readLoaf 25 = .ok (.aload_n 0, 1) := dk_42 (dk_at dksX7_readLoaf_1 1 rfl rfl)
theorem dX7_readLoaf_26 : decode cX7_readLoaf 26 = .ok (.invokevirtual 232, 3) := dk_182 0 232 (dk_at dksX7_readLoaf_1 2 rfl rfl)
theorem dX7_readLoaf_29 : decode cX7_readLoaf 29 = .ok (.bipush 6, 2) := dk_16 6 (dk_at dksX7_readLoaf_1 5 rfl rfl)
theorem dX7_readLoaf_31 : decode cX7_readLoaf 31 = .ok (.aload_n 0, 1) := dk_42 (dk_at dksX7_readLoaf_1 7 rfl rfl)
theorem dX7_readLoaf_32 : decode cX7_readLoaf 32 = .ok (.getfield 38, 3) := dk_180 0 38 (dk_at dksX7_readLoaf_1 8 rfl rfl)
theorem dX7_readLoaf_35 : decode cX7_readLoaf 35 = .ok (.bipush 7, 2) := dk_16 7 (dk_at dksX7_readLoaf_1 11 rfl rfl)
theorem dX7_readLoaf_37 : decode cX7_readLoaf 37 = .ok (.iaload, 1) := dk_46 (dk_at dksX7_readLoaf_1 13 rfl rfl)
theorem dX7_readLoaf_38 : decode cX7_readLoaf 38 = .ok (.iadd, 1) := dk_96 (dk_at dksX7_readLoaf_1 14 rfl rfl)
theorem dX7_readLoaf_39 : decode cX7_readLoaf 39 = .ok (.istore_n 1, 1) := dk_60 (dk_at dksX7_readLoaf_1 15 rfl rfl)
theorem dX7_readLoaf_40 : decode cX7_readLoaf 40 = .ok (.aload_n 0, 1) := dk_42 (dk_at dksX7_readLoaf_1 16 rfl rfl)
theorem dX7_readLoaf_41 : decode cX7_readLoaf 41 = .ok (.getfield 49, 3) := dk_180 0 49 (dk_at dksX7_readLoaf_1 17 rfl rfl)
theorem dX7_readLoaf_44 : decode cX7_readLoaf 44 = .ok (.iload_n 1, 1) := dk_27 (dk_at dksX7_readLoaf_1 20 rfl rfl)
theorem dX7_readLoaf_45 : decode cX7_readLoaf 45 = .ok (.aload_n 0, 1) := dk_42 (dk_at dksX7_readLoaf_1 21 rfl rfl)
theorem dX7_readLoaf_46 : decode cX7_readLoaf 46 = .ok (.iconst 0, 1) := dk_3 (dk_at dksX7_readLoaf_1 22 rfl rfl)
theorem dX7_readLoaf_47 : decode cX7_readLoaf 47 = .ok (.bipush 9, 2) := dk_16 9 (dk_at dksX7_readLoaf_2 0 rfl rfl)
theorem dX7_readLoaf_49 : decode cX7_readLoaf 49 = .ok (.invokevirtual 238, 3) := dk_182 0 238 (dk_at dksX7_readLoaf_2 2 rfl rfl)
theorem dX7_readLoaf_52 : decode cX7_readLoaf 52 = .ok (.iastore, 1) := dk_79 (dk_at dksX7_readLoaf_2 5 rfl rfl)
theorem dX7_readLoaf_53 : decode cX7_readLoaf 53 = .ok (.aload_n 0, 1) := dk_42 (dk_at dksX7_readLoaf_2 6 rfl rfl)
theorem dX7_readLoaf_54 : decode cX7_readLoaf 54 = .ok (.getfield 52, 3) := dk_180 0 52 (dk_at dksX7_readLoaf_2 7 rfl rfl)
theorem dX7_readLoaf_57 : decode cX7_readLoaf 57 = .ok (.iload_n 1, 1) := dk_27 (dk_at dksX7_readLoaf_2 10 rfl rfl)
theorem dX7_readLoaf_58 : decode cX7_readLoaf 58 = .ok (.aload_n 0, 1) := dk_42 (dk_at dksX7_readLoaf_2 11 rfl rfl)
theorem dX7_readLoaf_59 : decode cX7_readLoaf 59 = .ok (.iconst 1, 1) := dk_4 (dk_at dksX7_readLoaf_2 12 rfl rfl)
theorem dX7_readLoaf_60 : decode cX7_readLoaf 60 = .ok (.sipush 999, 3) := dk_17 3 231 (dk_at dksX7_readLoaf_2 13 rfl rfl)
theorem dX7_readLoaf_63 : decode cX7_readLoaf 63 = .ok (.invokevirtual 238, 3) := dk_182 0 238 (dk_at dksX7_readLoaf_2 16 rfl rfl)
theorem dX7_readLoaf_66 : decode cX7_readLoaf 66 = .ok (.iastore, 1) := dk_79 (dk_at dksX7_readLoaf_2 19 rfl rfl)
theorem dX7_readLoaf_67 : decode cX7_readLoaf 67 = .ok (.aload_n 0, 1) := dk_42 (dk_at dksX7_readLoaf_2 20 rfl rfl)
theorem dX7_readLoaf_68 : decode cX7_readLoaf 68 = .ok (.getfield 55, 3) := dk_180 0 55 (dk_at dksX7_readLoaf_2 21 rfl rfl)
theorem dX7_readLoaf_71 : decode cX7_readLoaf 71 = .ok (.iload_n 1, 1) := dk_27 (dk_at dksX7_readLoaf_3 0 rfl rfl)
theorem dX7_readLoaf_72 : decode cX7_readLoaf 72 = .ok (.aload_n 0, 1) := dk_42 (dk_at dksX7_readLoaf_3 1 rfl rfl)
theorem dX7_readLoaf_73 : decode cX7_readLoaf 73 = .ok (.iconst 0, 1) := dk_3 (dk_at dksX7_readLoaf_3 2 rfl rfl)
theorem dX7_readLoaf_74 : decode cX7_readLoaf 74 = .ok (.bipush 23, 2) := dk_16 23 (dk_at dksX7_readLoaf_3 3 rfl rfl)
theorem dX7_readLoaf_76 : decode cX7_readLoaf 76 = .ok (.invokevirtual 238, 3) := dk_182 0 238 (dk_at dksX7_readLoaf_3 5 rfl rfl)
theorem dX7_readLoaf_79 : decode cX7_readLoaf 79 = .ok (.iastore, 1) := dk_79 (dk_at dksX7_readLoaf_3 8 rfl rfl)
theorem dX7_readLoaf_80 : decode cX7_readLoaf 80 = .ok (.aload_n 0, 1) := dk_42 (dk_at dksX7_readLoaf_3 9 rfl rfl)
theorem dX7_readLoaf_81 : decode cX7_readLoaf 81 = .ok (.getfield 58, 3) := dk_180 0 58 (dk_at dksX7_readLoaf_3 10 rfl rfl)
theorem dX7_readLoaf_84 : decode cX7_readLoaf 84 = .ok (.iload_n 1, 1) := dk_27 (dk_at dksX7_readLoaf_3 13 rfl rfl)
theorem dX7_readLoaf_85 : decode cX7_readLoaf 85 = .ok (.aload_n 0, 1) := dk_42 (dk_at dksX7_readLoaf_3 14 rfl rfl)
theorem dX7_readLoaf_86 : decode cX7_readLoaf 86 = .ok (.iconst 1, 1) := dk_4 (dk_at dksX7_readLoaf_3 15 rfl rfl)
theorem dX7_readLoaf_87 : decode cX7_readLoaf 87 = .ok (.bipush 23, 2) := dk_16 23 (dk_at dksX7_readLoaf_3 16 rfl rfl)
theorem dX7_readLoaf_89 : decode cX7_readLoaf 89 = .ok (.invokevirtual 238, 3) := dk_182 0 238 (dk_at dksX7_readLoaf_3 18 rfl rfl)
theorem dX7_readLoaf_92 : decode cX7_readLoaf 92 = .ok (.iastore, 1) := dk_79 (dk_at dksX7_readLoaf_3 21 rfl rfl)
theorem dX7_readLoaf_93 : decode cX7_readLoaf 93 = .ok (.iconst 0, 1) := dk_3 (dk_at dksX7_readLoaf_3 22 rfl rfl)
theorem dX7_readLoaf_94 : decode cX7_readLoaf 94 = .ok (.istore_n 2, 1) := dk_61 (dk_at dksX7_readLoaf_3 23 rfl rfl)
theorem dX7_readLoaf_95 : decode cX7_readLoaf 95 = .ok (.iconst 0, 1) := dk_3 (dk_at dksX7_readLoaf_4 0 rfl rfl)
theorem dX7_readLoaf_96 : decode cX7_readLoaf 96 = .ok (.istore_n 3, 1) := dk_62 (dk_at dksX7_readLoaf_4 1 rfl rfl)
theorem dX7_readLoaf_97 : decode cX7_readLoaf 97 = .ok (.aload_n 0, 1) := dk_42 (dk_at dksX7_readLoaf_4 2 rfl rfl)
theorem dX7_readLoaf_98 : decode cX7_readLoaf 98 = .ok (.getfield 207, 3) := dk_180 0 207 (dk_at dksX7_readLoaf_4 3 rfl rfl)
theorem dX7_readLoaf_101 : decode cX7_readLoaf 101 = .ok (.ifCond .ne 16, 3) := dk_154 0 16 (dk_at dksX7_readLoaf_4 6 rfl rfl)
theorem dX7_readLoaf_104 : decode cX7_readLoaf 104 = .ok (.aload_n 0, 1) := dk_42 (dk_at dksX7_readLoaf_4 9 rfl rfl)
theorem dX7_readLoaf_105 : decode cX7_readLoaf 105 = .ok (.getfield 181, 3) := dk_180 0 181 (dk_at dksX7_readLoaf_4 10 rfl rfl)
theorem dX7_readLoaf_108 : decode cX7_readLoaf 108 = .ok (.iconst 2, 1) := dk_5 (dk_at dksX7_readLoaf_4 13 rfl rfl)
theorem dX7_readLoaf_109 : decode cX7_readLoaf 109 = .ok (.if_icmp .eq 8, 3) := dk_159 0 8 (dk_at dksX7_readLoaf_4 14 rfl rfl)
theorem dX7_readLoaf_112 : decode cX7_readLoaf 112 = .ok (.aload_n 0, 1) := dk_42 (dk_at dksX7_readLoaf_4 17 rfl rfl)
theorem dX7_readLoaf_113 : decode cX7_readLoaf 113 = .ok (.iconst 1, 1) := dk_4 (dk_at dksX7_readLoaf_4 18 rfl rfl)
theorem dX7_readLoaf_114 : decode cX7_readLoaf 114 = .ok (.invokevirtual 228, 3) := dk_182 0 228 (dk_at dksX7_readLoaf_4 19 rfl rfl)
theorem dX7_readLoaf_117 : decode cX7_readLoaf 117 = .ok (.aload_n 0, 1) := dk_42 (dk_at dksX7_readLoaf_4 22 rfl rfl)
theorem dX7_readLoaf_118 : decode cX7_readLoaf 118 = .ok (.getfield 207, 3) := dk_180 0 207 (dk_at dksX7_readLoaf_5 0 rfl rfl)
theorem dX7_readLoaf_121 : decode cX7_readLoaf 121 = .ok (.ifCond .ne 89, 3) := dk_154 0 89 (dk_at dksX7_readLoaf_5 3 rfl rfl)
theorem dX7_readLoaf_124 : decode cX7_readLoaf 124 = .ok (.aload_n 0, 1) := dk_42 (dk_at dksX7_readLoaf_5 6 rfl rfl)
theorem dX7_readLoaf_125 : decode cX7_readLoaf 125 = .ok (.getfield 181, 3) := dk_180 0 181 (dk_at dksX7_readLoaf_5 7 rfl rfl)
theorem dX7_readLoaf_128 : decode cX7_readLoaf 128 = .ok (.iconst 2, 1) := dk_5 (dk_at dksX7_readLoaf_5 10 rfl rfl)
theorem dX7_readLoaf_129 : decode cX7_readLoaf 129 = .ok (.if_icmp .ne 81, 3) := dk_160 0 81 (dk_at dksX7_readLoaf_5 11 rfl rfl)
theorem dX7_readLoaf_132 : decode cX7_readLoaf 132 = .ok (.iload_n 2, 1) := dk_28 (dk_at dksX7_readLoaf_5 14 rfl rfl)
theorem dX7_readLoaf_133 : decode cX7_readLoaf 133 = .ok (.bipush 6, 2) := dk_16 6 (dk_at dksX7_readLoaf_5 15 rfl rfl)
theorem dX7_readLoaf_135 : decode cX7_readLoaf 135 = .ok (.if_icmp .ne 8, 3) := dk_160 0 8 (dk_at dksX7_readLoaf_5 17 rfl rfl)
theorem dX7_readLoaf_138 : decode cX7_readLoaf 138 = .ok (.aload_n 0, 1) := dk_42 (dk_at dksX7_readLoaf_5 20 rfl rfl)
theorem dX7_readLoaf_139 : decode cX7_readLoaf 139 = .ok (.iconst 2, 1) := dk_5 (dk_at dksX7_readLoaf_5 21 rfl rfl)
theorem dX7_readLoaf_140 : decode cX7_readLoaf 140 = .ok (.invokevirtual 228, 3) := dk_182 0 228 (dk_at dksX7_readLoaf_6 0 rfl rfl)
theorem dX7_readLoaf_143 : decode cX7_readLoaf 143 = .ok (.aload_n 0, 1) := dk_42 (dk_at dksX7_readLoaf_6 3 rfl rfl)
theorem dX7_readLoaf_144 : decode cX7_readLoaf 144 = .ok (.invokevirtual 275, 3) := dk_182 1 19 (dk_at dksX7_readLoaf_6 4 rfl rfl)
theorem dX7_readLoaf_147 : decode cX7_readLoaf 147 = .ok (.istore 4, 2) := dk_54 4 (dk_at dksX7_readLoaf_6 7 rfl rfl)
theorem dX7_readLoaf_149 : decode cX7_readLoaf 149 = .ok (.aload_n 0, 1) := dk_42 (dk_at dksX7_readLoaf_6 9 rfl rfl)
theorem dX7_readLoaf_150 : decode cX7_readLoaf 150 = .ok (.getfield 207, 3) := dk_180 0 207 (dk_at dksX7_readLoaf_6 10 rfl rfl)
theorem dX7_readLoaf_153 : decode cX7_readLoaf 153 = .ok (.ifCond .ne 17, 3) := dk_154 0 17 (dk_at dksX7_readLoaf_6 13 rfl rfl)
theorem dX7_readLoaf_156 : decode cX7_readLoaf 156 = .ok (.iload_n 3, 1) := dk_29 (dk_at dksX7_readLoaf_6 16 rfl rfl)
theorem dX7_readLoaf_157 : decode cX7_readLoaf 157 = .ok (.iload 4, 2) := dk_21 4 (dk_at dksX7_readLoaf_6 17 rfl rfl)
theorem dX7_readLoaf_159 : decode cX7_readLoaf 159 = .ok (.invokestatic 278, 3) := dk_184 1 22 (dk_at dksX7_readLoaf_6 19 rfl rfl)
theorem dX7_readLoaf_162 : decode cX7_readLoaf 162 = .ok (.ifCond .eq 8, 3) := dk_153 0 8 (dk_at dksX7_readLoaf_7 0 rfl rfl)
theorem dX7_readLoaf_165 : decode cX7_readLoaf 165 = .ok (.aload_n 0, 1) := dk_42 (dk_at dksX7_readLoaf_7 3 rfl rfl)
theorem dX7_readLoaf_166 : decode cX7_readLoaf 166 = .ok (.iconst 4, 1) := dk_7 (dk_at dksX7_readLoaf_7 4 rfl rfl)
theorem dX7_readLoaf_167 : decode cX7_readLoaf 167 = .ok (.invokevirtual 228, 3) := dk_182 0 228 (dk_at dksX7_readLoaf_7 5 rfl rfl)
theorem dX7_readLoaf_170 : decode cX7_readLoaf 170 = .ok (.aload_n 0, 1) := dk_42 (dk_at dksX7_readLoaf_7 8 rfl rfl)
theorem dX7_readLoaf_171 : decode cX7_readLoaf 171 = .ok (.getfield 207, 3) := dk_180 0 207 (dk_at dksX7_readLoaf_7 9 rfl rfl)
theorem dX7_readLoaf_174 : decode cX7_readLoaf 174 = .ok (.ifCond .eq 6, 3) := dk_153 0 6 (dk_at dksX7_readLoaf_7 12 rfl rfl)
theorem dX7_readLoaf_177 : decode cX7_readLoaf 177 = .ok (.goto (-60), 3) := dk_167 255 196 (dk_at dksX7_readLoaf_7 15 rfl rfl)
theorem dX7_readLoaf_180 : decode cX7_readLoaf 180 = .ok (.iload_n 3, 1) := dk_29 (dk_at dksX7_readLoaf_7 18 rfl rfl)
theorem dX7_readLoaf_181 : decode cX7_readLoaf 181 = .ok (.iconst 1, 1) := dk_4 (dk_at dksX7_readLoaf_7 19 rfl rfl)
theorem dX7_readLoaf_182 : decode cX7_readLoaf 182 = .ok (.iload 4, 2) := dk_21 4 (dk_at dksX7_readLoaf_7 20 rfl rfl)
theorem dX7_readLoaf_184 : decode cX7_readLoaf 184 = .ok (.ishl, 1) := dk_120 (dk_at dksX7_readLoaf_7 22 rfl rfl)
theorem dX7_readLoaf_185 : decode cX7_readLoaf 185 = .ok (.ior, 1) := dk_128 (dk_at dksX7_readLoaf_7 23 rfl rfl)
theorem dX7_readLoaf_186 : decode cX7_readLoaf 186 = .ok (.istore_n 3, 1) := dk_62 (dk_at dksX7_readLoaf_8 0 rfl rfl)
theorem dX7_readLoaf_187 : decode cX7_readLoaf 187 = .ok (.aload_n 0, 1) := dk_42 (dk_at dksX7_readLoaf_8 1 rfl rfl)
theorem dX7_readLoaf_188 : decode cX7_readLoaf 188 = .ok (.getfield 64, 3) := dk_180 0 64 (dk_at dksX7_readLoaf_8 2 rfl rfl)
theorem dX7_readLoaf_191 : decode cX7_readLoaf 191 = .ok (.bipush 6, 2) := dk_16 6 (dk_at dksX7_readLoaf_8 5 rfl rfl)
theorem dX7_readLoaf_193 : decode cX7_readLoaf 193 = .ok (.iload_n 1, 1) := dk_27 (dk_at dksX7_readLoaf_8 7 rfl rfl)
theorem dX7_readLoaf_194 : decode cX7_readLoaf 194 = .ok (.imul, 1) := dk_104 (dk_at dksX7_readLoaf_8 8 rfl rfl)
theorem dX7_readLoaf_195 : decode cX7_readLoaf 195 = .ok (.iload_n 2, 1) := dk_28 (dk_at dksX7_readLoaf_8 9 rfl rfl)
theorem dX7_readLoaf_196 : decode cX7_readLoaf 196 = .ok (.iadd, 1) := dk_96 (dk_at dksX7_readLoaf_8 10 rfl rfl)
theorem dX7_readLoaf_197 : decode cX7_readLoaf 197 = .ok (.iload 4, 2) := dk_21 4 (dk_at dksX7_readLoaf_8 11 rfl rfl)
theorem dX7_readLoaf_199 : decode cX7_readLoaf 199 = .ok (.iastore, 1) := dk_79 (dk_at dksX7_readLoaf_8 13 rfl rfl)
theorem dX7_readLoaf_200 : decode cX7_readLoaf 200 = .ok (.iinc 2 1, 3) := dk_132 2 1 (dk_at dksX7_readLoaf_8 14 rfl rfl)
theorem dX7_readLoaf_203 : decode cX7_readLoaf 203 = .ok (.aload_n 0, 1) := dk_42 (dk_at dksX7_readLoaf_8 17 rfl rfl)
theorem dX7_readLoaf_204 : decode cX7_readLoaf 204 = .ok (.invokevirtual 232, 3) := dk_182 0 232 (dk_at dksX7_readLoaf_8 18 rfl rfl)
theorem dX7_readLoaf_207 : decode cX7_readLoaf 207 = .ok (.goto (-90), 3) := dk_167 255 166 (dk_at dksX7_readLoaf_8 21 rfl rfl)
theorem dX7_readLoaf_210 : decode cX7_readLoaf 210 = .ok (.aload_n 0, 1) := dk_42 (dk_at dksX7_readLoaf_9 0 rfl rfl)
theorem dX7_readLoaf_211 : decode cX7_readLoaf 211 = .ok (.getfield 61, 3) := dk_180 0 61 (dk_at dksX7_readLoaf_9 1 rfl rfl)
theorem dX7_readLoaf_214 : decode cX7_readLoaf 214 = .ok (.iload_n 1, 1) := dk_27 (dk_at dksX7_readLoaf_9 4 rfl rfl)
theorem dX7_readLoaf_215 : decode cX7_readLoaf 215 = .ok (.iload_n 2, 1) := dk_28 (dk_at dksX7_readLoaf_9 5 rfl rfl)
theorem dX7_readLoaf_216 : decode cX7_readLoaf 216 = .ok (.iastore, 1) := dk_79 (dk_at dksX7_readLoaf_9 6 rfl rfl)
theorem dX7_readLoaf_217 : decode cX7_readLoaf 217 = .ok (.aload_n 0, 1) := dk_42 (dk_at dksX7_readLoaf_9 7 rfl rfl)
theorem dX7_readLoaf_218 : decode cX7_readLoaf 218 = .ok (.getfield 38, 3) := dk_180 0 38 (dk_at dksX7_readLoaf_9 8 rfl rfl)
theorem dX7_readLoaf_221 : decode cX7_readLoaf 221 = .ok (.bipush 7, 2) := dk_16 7 (dk_at dksX7_readLoaf_9 11 rfl rfl)
theorem dX7_readLoaf_223 : decode cX7_readLoaf 223 = .ok (.dup2, 1) := dk_92 (dk_at dksX7_readLoaf_9 13 rfl rfl)
theorem dX7_readLoaf_224 : decode cX7_readLoaf 224 = .ok (.iaload, 1) := dk_46 (dk_at dksX7_readLoaf_9 14 rfl rfl)
theorem dX7_readLoaf_225 : decode cX7_readLoaf 225 = .ok (.iconst 1, 1) := dk_4 (dk_at dksX7_readLoaf_9 15 rfl rfl)
theorem dX7_readLoaf_226 : decode cX7_readLoaf 226 = .ok (.iadd, 1) := dk_96 (dk_at dksX7_readLoaf_9 16 rfl rfl)
theorem dX7_readLoaf_227 : decode cX7_readLoaf 227 = .ok (.iastore, 1) := dk_79 (dk_at dksX7_readLoaf_9 17 rfl rfl)
theorem dX7_readLoaf_228 : decode cX7_readLoaf 228 = .ok (.return_, 1) := dk_177 (dk_at dksX7_readLoaf_9 18 rfl rfl)
abbrev cX7_personNow : ByteArray := prog_21_method_23_code
def yX7_personNow : MethodName := ⟨RX7, "personNow", "()I"⟩
def dkwX7_personNow_1 : List UInt8 := [161, 0, 8, 42, 6, 182, 0, 228, 42, 180, 0, 207, 154, 0, 7, 27, 167, 0, 4, 3, 172]
abbrev dktX7_personNow_1 : List UInt8 := dkwX7_personNow_1 ++ []
def dkwX7_personNow_0 : List UInt8 := [42, 3, 17, 39, 15, 182, 0, 235, 60, 42, 180, 0, 207, 154, 0, 19, 27, 42, 180, 0, 38, 16, 6, 46]
abbrev dktX7_personNow_0 : List UInt8 := dkwX7_personNow_0 ++ dktX7_personNow_1
theorem dksX7_personNow_0 : cX7_personNow.data.toList.drop 0 = dktX7_personNow_0 := by decide +kernel
theorem dksX7_personNow_1 : cX7_personNow.data.toList.drop 24 = dktX7_personNow_1 := dk_seg dksX7_personNow_0 24 rfl rfl
theorem dX7_personNow_0 : decode cX7_personNow 0 = .ok (.aload_n 0, 1) := dk_42 (dk_at dksX7_personNow_0 0 rfl rfl)
theorem dX7_personNow_1 : decode cX7_personNow 1 = .ok (.iconst 0, 1) := dk_3 (dk_at dksX7_personNow_0 1 rfl rfl)
theorem dX7_personNow_2 : decode cX7_personNow 2 = .ok (.sipush 9999, 3) := dk_17 39 15 (dk_at dksX7_personNow_0 2 rfl rfl)
theorem dX7_personNow_5 : decode cX7_personNow 5 = .ok (.invokevirtual 235, 3) := dk_182 0 235 (dk_at dksX7_personNow_0 5 rfl rfl)
theorem dX7_personNow_8 : decode cX7_personNow 8 = .ok (.istore_n 1, 1) := dk_60 (dk_at dksX7_personNow_0 8 rfl rfl)
theorem dX7_personNow_9 : decode cX7_personNow 9 = .ok (.aload_n 0, 1) := dk_42 (dk_at dksX7_personNow_0 9 rfl rfl)
theorem dX7_personNow_10 : decode cX7_personNow 10 = .ok (.getfield 207, 3) := dk_180 0 207 (dk_at dksX7_personNow_0 10 rfl rfl)
theorem dX7_personNow_13 : decode cX7_personNow 13 = .ok (.ifCond .ne 19, 3) := dk_154 0 19 (dk_at dksX7_personNow_0 13 rfl rfl)
theorem dX7_personNow_16 : decode cX7_personNow 16 = .ok (.iload_n 1, 1) := dk_27 (dk_at dksX7_personNow_0 16 rfl rfl)
theorem dX7_personNow_17 : decode cX7_personNow 17 = .ok (.aload_n 0, 1) := dk_42 (dk_at dksX7_personNow_0 17 rfl rfl)
theorem dX7_personNow_18 : decode cX7_personNow 18 = .ok (.getfield 38, 3) := dk_180 0 38 (dk_at dksX7_personNow_0 18 rfl rfl)
theorem dX7_personNow_21 : decode cX7_personNow 21 = .ok (.bipush 6, 2) := dk_16 6 (dk_at dksX7_personNow_0 21 rfl rfl)
theorem dX7_personNow_23 : decode cX7_personNow 23 = .ok (.iaload, 1) := dk_46 (dk_at dksX7_personNow_0 23 rfl rfl)
theorem dX7_personNow_24 : decode cX7_personNow 24 = .ok (.if_icmp .lt 8, 3) := dk_161 0 8 (dk_at dksX7_personNow_1 0 rfl rfl)
theorem dX7_personNow_27 : decode cX7_personNow 27 = .ok (.aload_n 0, 1) := dk_42 (dk_at dksX7_personNow_1 3 rfl rfl)
theorem dX7_personNow_28 : decode cX7_personNow 28 = .ok (.iconst 3, 1) := dk_6 (dk_at dksX7_personNow_1 4 rfl rfl)
theorem dX7_personNow_29 : decode cX7_personNow 29 = .ok (.invokevirtual 228, 3) := dk_182 0 228 (dk_at dksX7_personNow_1 5 rfl rfl)
theorem dX7_personNow_32 : decode cX7_personNow 32 = .ok (.aload_n 0, 1) := dk_42 (dk_at dksX7_personNow_1 8 rfl rfl)
theorem dX7_personNow_33 : decode cX7_personNow 33 = .ok (.getfield 207, 3) := dk_180 0 207 (dk_at dksX7_personNow_1 9 rfl rfl)
theorem dX7_personNow_36 : decode cX7_personNow 36 = .ok (.ifCond .ne 7, 3) := dk_154 0 7 (dk_at dksX7_personNow_1 12 rfl rfl)
theorem dX7_personNow_39 : decode cX7_personNow 39 = .ok (.iload_n 1, 1) := dk_27 (dk_at dksX7_personNow_1 15 rfl rfl)
theorem dX7_personNow_40 : decode cX7_personNow 40 = .ok (.goto 4, 3) := dk_167 0 4 (dk_at dksX7_personNow_1 16 rfl rfl)
theorem dX7_personNow_43 : decode cX7_personNow 43 = .ok (.iconst 0, 1) := dk_3 (dk_at dksX7_personNow_1 19 rfl rfl)
theorem dX7_personNow_44 : decode cX7_personNow 44 = .ok (.ireturn, 1) := dk_172 (dk_at dksX7_personNow_1 20 rfl rfl)
abbrev cX7_isOf : ByteArray := prog_21_method_6_code
def yX7_isOf : MethodName := ⟨RX7, "isOf", "(II)Z"⟩
def dkwX7_isOf_0 : List UInt8 := [26, 27, 122, 4, 126, 4, 160, 0, 7, 4, 167, 0, 4, 3, 172]
abbrev dktX7_isOf_0 : List UInt8 := dkwX7_isOf_0 ++ []
theorem dksX7_isOf_0 : cX7_isOf.data.toList.drop 0 = dktX7_isOf_0 := by decide +kernel
theorem dX7_isOf_0 : decode cX7_isOf 0 = .ok (.iload_n 0, 1) := dk_26 (dk_at dksX7_isOf_0 0 rfl rfl)
theorem dX7_isOf_1 : decode cX7_isOf 1 = .ok (.iload_n 1, 1) := dk_27 (dk_at dksX7_isOf_0 1 rfl rfl)
theorem dX7_isOf_2 : decode cX7_isOf 2 = .ok (.ishr, 1) := dk_122 (dk_at dksX7_isOf_0 2 rfl rfl)
theorem dX7_isOf_3 : decode cX7_isOf 3 = .ok (.iconst 1, 1) := dk_4 (dk_at dksX7_isOf_0 3 rfl rfl)
theorem dX7_isOf_4 : decode cX7_isOf 4 = .ok (.iand, 1) := dk_126 (dk_at dksX7_isOf_0 4 rfl rfl)
theorem dX7_isOf_5 : decode cX7_isOf 5 = .ok (.iconst 1, 1) := dk_4 (dk_at dksX7_isOf_0 5 rfl rfl)
theorem dX7_isOf_6 : decode cX7_isOf 6 = .ok (.if_icmp .ne 7, 3) := dk_160 0 7 (dk_at dksX7_isOf_0 6 rfl rfl)
theorem dX7_isOf_9 : decode cX7_isOf 9 = .ok (.iconst 1, 1) := dk_4 (dk_at dksX7_isOf_0 9 rfl rfl)
theorem dX7_isOf_10 : decode cX7_isOf 10 = .ok (.goto 4, 3) := dk_167 0 4 (dk_at dksX7_isOf_0 10 rfl rfl)
theorem dX7_isOf_13 : decode cX7_isOf 13 = .ok (.iconst 0, 1) := dk_3 (dk_at dksX7_isOf_0 13 rfl rfl)
theorem dX7_isOf_14 : decode cX7_isOf 14 = .ok (.ireturn, 1) := dk_172 (dk_at dksX7_isOf_0 14 rfl rfl)
abbrev cX7_readMet : ByteArray := prog_21_method_33_code
def yX7_readMet : MethodName := ⟨RX7, "readMet", "()V"⟩
def dkwX7_readMet_7 : List UInt8 := [92, 46, 4, 96, 79, 177]
abbrev dktX7_readMet_7 : List UInt8 := dkwX7_readMet_7 ++ []
def dkwX7_readMet_6 : List UInt8 := [184, 1, 26, 96, 42, 180, 0, 67, 21, 4, 27, 28, 184, 1, 26, 96, 46, 79, 42, 180, 0, 38, 16, 8]
abbrev dktX7_readMet_6 : List UInt8 := dkwX7_readMet_6 ++ dktX7_readMet_7
def dkwX7_readMet_5 : List UInt8 := [21, 4, 27, 28, 184, 1, 26, 96, 46, 29, 116, 184, 1, 29, 79, 42, 180, 0, 67, 21, 4, 28, 27]
abbrev dktX7_readMet_5 : List UInt8 := dkwX7_readMet_5 ++ dktX7_readMet_6
def dkwX7_readMet_4 : List UInt8 := [153, 0, 4, 177, 16, 64, 54, 4, 42, 180, 0, 67, 21, 4, 27, 28, 184, 1, 26, 96, 42, 180, 0, 67]
abbrev dktX7_readMet_4 : List UInt8 := dkwX7_readMet_4 ++ dktX7_readMet_5
def dkwX7_readMet_3 : List UInt8 := [180, 0, 207, 154, 0, 7, 42, 182, 0, 232, 42, 3, 17, 3, 231, 182, 0, 238, 62, 42, 180, 0, 207]
abbrev dktX7_readMet_3 : List UInt8 := dkwX7_readMet_3 ++ dktX7_readMet_4
def dkwX7_readMet_2 : List UInt8 := [182, 1, 19, 61, 42, 180, 0, 207, 154, 0, 13, 27, 28, 160, 0, 8, 42, 7, 182, 0, 228, 42]
abbrev dktX7_readMet_2 : List UInt8 := dkwX7_readMet_2 ++ dktX7_readMet_3
def dkwX7_readMet_1 : List UInt8 := [177, 42, 182, 0, 232, 42, 182, 1, 19, 60, 42, 180, 0, 207, 154, 0, 7, 42, 182, 0, 232, 42]
abbrev dktX7_readMet_1 : List UInt8 := dkwX7_readMet_1 ++ dktX7_readMet_2
def dkwX7_readMet_0 : List UInt8 := [42, 180, 0, 38, 16, 8, 46, 16, 16, 160, 0, 8, 42, 5, 182, 0, 228, 42, 180, 0, 207, 153, 0, 4]
abbrev dktX7_readMet_0 : List UInt8 := dkwX7_readMet_0 ++ dktX7_readMet_1
theorem dksX7_readMet_0 : cX7_readMet.data.toList.drop 0 = dktX7_readMet_0 := by decide +kernel
theorem dksX7_readMet_1 : cX7_readMet.data.toList.drop 24 = dktX7_readMet_1 := dk_seg dksX7_readMet_0 24 rfl rfl
theorem dksX7_readMet_2 : cX7_readMet.data.toList.drop 46 = dktX7_readMet_2 := dk_seg dksX7_readMet_1 22 rfl rfl
theorem dksX7_readMet_3 : cX7_readMet.data.toList.drop 68 = dktX7_readMet_3 := dk_seg dksX7_readMet_2 22 rfl rfl
theorem dksX7_readMet_4 : cX7_readMet.data.toList.drop 91 = dktX7_readMet_4 := dk_seg dksX7_readMet_3 23 rfl rfl
theorem dksX7_readMet_5 : cX7_readMet.data.toList.drop 115 = dktX7_readMet_5 := dk_seg dksX7_readMet_4 24 rfl rfl
theorem dksX7_readMet_6 : cX7_readMet.data.toList.drop 138 = dktX7_readMet_6 := dk_seg dksX7_readMet_5 23 rfl rfl
theorem dksX7_readMet_7 : cX7_readMet.data.toList.drop 162 = dktX7_readMet_7 := dk_seg dksX7_readMet_6 24 rfl rfl
theorem dX7_readMet_0 : decode cX7_readMet 0 = .ok (.aload_n 0, 1) := dk_42 (dk_at dksX7_readMet_0 0 rfl rfl)
theorem dX7_readMet_1 : decode cX7_readMet 1 = .ok (.getfield 38, 3) := dk_180 0 38 (dk_at dksX7_readMet_0 1 rfl rfl)
theorem dX7_readMet_4 : decode cX7_readMet 4 = .ok (.bipush 8, 2) := dk_16 8 (dk_at dksX7_readMet_0 4 rfl rfl)
theorem dX7_readMet_6 : decode cX7_readMet 6 = .ok (.iaload, 1) := dk_46 (dk_at dksX7_readMet_0 6 rfl rfl)
theorem dX7_readMet_7 : decode cX7_readMet 7 = .ok (.bipush 16, 2) := dk_16 16 (dk_at dksX7_readMet_0 7 rfl rfl)
theorem dX7_readMet_9 : decode cX7_readMet 9 = .ok (.if_icmp .ne 8, 3) := dk_160 0 8 (dk_at dksX7_readMet_0 9 rfl rfl)
theorem dX7_readMet_12 : decode cX7_readMet 12 = .ok (.aload_n 0, 1) := dk_42 (dk_at dksX7_readMet_0 12 rfl rfl)
theorem dX7_readMet_13 : decode cX7_readMet 13 = .ok (.iconst 2, 1) := dk_5 (dk_at dksX7_readMet_0 13 rfl rfl)
theorem dX7_readMet_14 : decode cX7_readMet 14 = .ok (.invokevirtual 228, 3) := dk_182 0 228 (dk_at dksX7_readMet_0 14 rfl rfl)
theorem dX7_readMet_17 : decode cX7_readMet 17 = .ok (.aload_n 0, 1) := dk_42 (dk_at dksX7_readMet_0 17 rfl rfl)
theorem dX7_readMet_18 : decode cX7_readMet 18 = .ok (.getfield 207, 3) := dk_180 0 207 (dk_at dksX7_readMet_0 18 rfl rfl)
theorem dX7_readMet_21 : decode cX7_readMet 21 = .ok (.ifCond .eq 4, 3) := dk_153 0 4 (dk_at dksX7_readMet_0 21 rfl rfl)
theorem dX7_readMet_24 : decode cX7_readMet 24 = .ok (.return_, 1) := dk_177 (dk_at dksX7_readMet_1 0 rfl rfl)
theorem dX7_readMet_25 : decode cX7_readMet 25 = .ok (.aload_n 0, 1) := dk_42 (dk_at dksX7_readMet_1 1 rfl rfl)
theorem dX7_readMet_26 : decode cX7_readMet 26 = .ok (.invokevirtual 232, 3) := dk_182 0 232 (dk_at dksX7_readMet_1 2 rfl rfl)
theorem dX7_readMet_29 : decode cX7_readMet 29 = .ok (.aload_n 0, 1) := dk_42 (dk_at dksX7_readMet_1 5 rfl rfl)
theorem dX7_readMet_30 : decode cX7_readMet 30 = .ok (.invokevirtual 275, 3) := dk_182 1 19 (dk_at dksX7_readMet_1 6 rfl rfl)
theorem dX7_readMet_33 : decode cX7_readMet 33 = .ok (.istore_n 1, 1) := dk_60 (dk_at dksX7_readMet_1 9 rfl rfl)
theorem dX7_readMet_34 : decode cX7_readMet 34 = .ok (.aload_n 0, 1) := dk_42 (dk_at dksX7_readMet_1 10 rfl rfl)
theorem dX7_readMet_35 : decode cX7_readMet 35 = .ok (.getfield 207, 3) := dk_180 0 207 (dk_at dksX7_readMet_1 11 rfl rfl)
theorem dX7_readMet_38 : decode cX7_readMet 38 = .ok (.ifCond .ne 7, 3) := dk_154 0 7 (dk_at dksX7_readMet_1 14 rfl rfl)
theorem dX7_readMet_41 : decode cX7_readMet 41 = .ok (.aload_n 0, 1) := dk_42 (dk_at dksX7_readMet_1 17 rfl rfl)
theorem dX7_readMet_42 : decode cX7_readMet 42 = .ok (.invokevirtual 232, 3) := dk_182 0 232 (dk_at dksX7_readMet_1 18 rfl rfl)
theorem dX7_readMet_45 : decode cX7_readMet 45 = .ok (.aload_n 0, 1) := dk_42 (dk_at dksX7_readMet_1 21 rfl rfl)
theorem dX7_readMet_46 : decode cX7_readMet 46 = .ok (.invokevirtual 275, 3) := dk_182 1 19 (dk_at dksX7_readMet_2 0 rfl rfl)
theorem dX7_readMet_49 : decode cX7_readMet 49 = .ok (.istore_n 2, 1) := dk_61 (dk_at dksX7_readMet_2 3 rfl rfl)
theorem dX7_readMet_50 : decode cX7_readMet 50 = .ok (.aload_n 0, 1) := dk_42 (dk_at dksX7_readMet_2 4 rfl rfl)
theorem dX7_readMet_51 : decode cX7_readMet 51 = .ok (.getfield 207, 3) := dk_180 0 207 (dk_at dksX7_readMet_2 5 rfl rfl)
theorem dX7_readMet_54 : decode cX7_readMet 54 = .ok (.ifCond .ne 13, 3) := dk_154 0 13 (dk_at dksX7_readMet_2 8 rfl rfl)
theorem dX7_readMet_57 : decode cX7_readMet 57 = .ok (.iload_n 1, 1) := dk_27 (dk_at dksX7_readMet_2 11 rfl rfl)
theorem dX7_readMet_58 : decode cX7_readMet 58 = .ok (.iload_n 2, 1) := dk_28 (dk_at dksX7_readMet_2 12 rfl rfl)
theorem dX7_readMet_59 : decode cX7_readMet 59 = .ok (.if_icmp .ne 8, 3) := dk_160 0 8 (dk_at dksX7_readMet_2 13 rfl rfl)
theorem dX7_readMet_62 : decode cX7_readMet 62 = .ok (.aload_n 0, 1) := dk_42 (dk_at dksX7_readMet_2 16 rfl rfl)
theorem dX7_readMet_63 : decode cX7_readMet 63 = .ok (.iconst 4, 1) := dk_7 (dk_at dksX7_readMet_2 17 rfl rfl)
theorem dX7_readMet_64 : decode cX7_readMet 64 = .ok (.invokevirtual 228, 3) := dk_182 0 228 (dk_at dksX7_readMet_2 18 rfl rfl)
theorem dX7_readMet_67 : decode cX7_readMet 67 = .ok (.aload_n 0, 1) := dk_42 (dk_at dksX7_readMet_2 21 rfl rfl)
theorem dX7_readMet_68 : decode cX7_readMet 68 = .ok (.getfield 207, 3) := dk_180 0 207 (dk_at dksX7_readMet_3 0 rfl rfl)
theorem dX7_readMet_71 : decode cX7_readMet 71 = .ok (.ifCond .ne 7, 3) := dk_154 0 7 (dk_at dksX7_readMet_3 3 rfl rfl)
theorem dX7_readMet_74 : decode cX7_readMet 74 = .ok (.aload_n 0, 1) := dk_42 (dk_at dksX7_readMet_3 6 rfl rfl)
theorem dX7_readMet_75 : decode cX7_readMet 75 = .ok (.invokevirtual 232, 3) := dk_182 0 232 (dk_at dksX7_readMet_3 7 rfl rfl)
theorem dX7_readMet_78 : decode cX7_readMet 78 = .ok (.aload_n 0, 1) := dk_42 (dk_at dksX7_readMet_3 10 rfl rfl)
theorem dX7_readMet_79 : decode cX7_readMet 79 = .ok (.iconst 0, 1) := dk_3 (dk_at dksX7_readMet_3 11 rfl rfl)
theorem dX7_readMet_80 : decode cX7_readMet 80 = .ok (.sipush 999, 3) := dk_17 3 231 (dk_at dksX7_readMet_3 12 rfl rfl)
theorem dX7_readMet_83 : decode cX7_readMet 83 = .ok (.invokevirtual 238, 3) := dk_182 0 238 (dk_at dksX7_readMet_3 15 rfl rfl)
theorem dX7_readMet_86 : decode cX7_readMet 86 = .ok (.istore_n 3, 1) := dk_62 (dk_at dksX7_readMet_3 18 rfl rfl)
theorem dX7_readMet_87 : decode cX7_readMet 87 = .ok (.aload_n 0, 1) := dk_42 (dk_at dksX7_readMet_3 19 rfl rfl)
theorem dX7_readMet_88 : decode cX7_readMet 88 = .ok (.getfield 207, 3) := dk_180 0 207 (dk_at dksX7_readMet_3 20 rfl rfl)
theorem dX7_readMet_91 : decode cX7_readMet 91 = .ok (.ifCond .eq 4, 3) := dk_153 0 4 (dk_at dksX7_readMet_4 0 rfl rfl)
theorem dX7_readMet_94 : decode cX7_readMet 94 = .ok (.return_, 1) := dk_177 (dk_at dksX7_readMet_4 3 rfl rfl)
theorem dX7_readMet_95 : decode cX7_readMet 95 = .ok (.bipush 64, 2) := dk_16 64 (dk_at dksX7_readMet_4 4 rfl rfl)
theorem dX7_readMet_97 : decode cX7_readMet 97 = .ok (.istore 4, 2) := dk_54 4 (dk_at dksX7_readMet_4 6 rfl rfl)
theorem dX7_readMet_99 : decode cX7_readMet 99 = .ok (.aload_n 0, 1) := dk_42 (dk_at dksX7_readMet_4 8 rfl rfl)
theorem dX7_readMet_100 : decode cX7_readMet 100 = .ok (.getfield 67, 3) := dk_180 0 67 (dk_at dksX7_readMet_4 9 rfl rfl)
theorem dX7_readMet_103 : decode cX7_readMet 103 = .ok (.iload 4, 2) := dk_21 4 (dk_at dksX7_readMet_4 12 rfl rfl)
theorem dX7_readMet_105 : decode cX7_readMet 105 = .ok (.iload_n 1, 1) := dk_27 (dk_at dksX7_readMet_4 14 rfl rfl)
theorem dX7_readMet_106 : decode cX7_readMet 106 = .ok (.iload_n 2, 1) := dk_28 (dk_at dksX7_readMet_4 15 rfl rfl)
theorem dX7_readMet_107 : decode cX7_readMet 107 = .ok (.invokestatic 282, 3) := dk_184 1 26 (dk_at dksX7_readMet_4 16 rfl rfl)
theorem dX7_readMet_110 : decode cX7_readMet 110 = .ok (.iadd, 1) := dk_96 (dk_at dksX7_readMet_4 19 rfl rfl)
theorem dX7_readMet_111 : decode cX7_readMet 111 = .ok (.aload_n 0, 1) := dk_42 (dk_at dksX7_readMet_4 20 rfl rfl)
theorem dX7_readMet_112 : decode cX7_readMet 112 = .ok (.getfield 67, 3) := dk_180 0 67 (dk_at dksX7_readMet_4 21 rfl rfl)
theorem dX7_readMet_115 : decode cX7_readMet 115 = .ok (.iload 4, 2) := dk_21 4 (dk_at dksX7_readMet_5 0 rfl rfl)
theorem dX7_readMet_117 : decode cX7_readMet 117 = .ok (.iload_n 1, 1) := dk_27 (dk_at dksX7_readMet_5 2 rfl rfl)
theorem dX7_readMet_118 : decode cX7_readMet 118 = .ok (.iload_n 2, 1) := dk_28 (dk_at dksX7_readMet_5 3 rfl rfl)
theorem dX7_readMet_119 : decode cX7_readMet 119 = .ok (.invokestatic 282, 3) := dk_184 1 26 (dk_at dksX7_readMet_5 4 rfl rfl)
theorem dX7_readMet_122 : decode cX7_readMet 122 = .ok (.iadd, 1) := dk_96 (dk_at dksX7_readMet_5 7 rfl rfl)
theorem dX7_readMet_123 : decode cX7_readMet 123 = .ok (.iaload, 1) := dk_46 (dk_at dksX7_readMet_5 8 rfl rfl)
theorem dX7_readMet_124 : decode cX7_readMet 124 = .ok (.iload_n 3, 1) := dk_29 (dk_at dksX7_readMet_5 9 rfl rfl)
theorem dX7_readMet_125 : decode cX7_readMet 125 = .ok (.ineg, 1) := dk_116 (dk_at dksX7_readMet_5 10 rfl rfl)
theorem dX7_readMet_126 : decode cX7_readMet 126 = .ok (.invokestatic 285, 3) := dk_184 1 29 (dk_at dksX7_readMet_5 11 rfl rfl)
theorem dX7_readMet_129 : decode cX7_readMet 129 = .ok (.iastore, 1) := dk_79 (dk_at dksX7_readMet_5 14 rfl rfl)
theorem dX7_readMet_130 : decode cX7_readMet 130 = .ok (.aload_n 0, 1) := dk_42 (dk_at dksX7_readMet_5 15 rfl rfl)
theorem dX7_readMet_131 : decode cX7_readMet 131 = .ok (.getfield 67, 3) := dk_180 0 67 (dk_at dksX7_readMet_5 16 rfl rfl)
theorem dX7_readMet_134 : decode cX7_readMet 134 = .ok (.iload 4, 2) := dk_21 4 (dk_at dksX7_readMet_5 19 rfl rfl)
theorem dX7_readMet_136 : decode cX7_readMet 136 = .ok (.iload_n 2, 1) := dk_28 (dk_at dksX7_readMet_5 21 rfl rfl)
theorem dX7_readMet_137 : decode cX7_readMet 137 = .ok (.iload_n 1, 1) := dk_27 (dk_at dksX7_readMet_5 22 rfl rfl)
theorem dX7_readMet_138 : decode cX7_readMet 138 = .ok (.invokestatic 282, 3) := dk_184 1 26 (dk_at dksX7_readMet_6 0 rfl rfl)
theorem dX7_readMet_141 : decode cX7_readMet 141 = .ok (.iadd, 1) := dk_96 (dk_at dksX7_readMet_6 3 rfl rfl)
theorem dX7_readMet_142 : decode cX7_readMet 142 = .ok (.aload_n 0, 1) := dk_42 (dk_at dksX7_readMet_6 4 rfl rfl)
theorem dX7_readMet_143 : decode cX7_readMet 143 = .ok (.getfield 67, 3) := dk_180 0 67 (dk_at dksX7_readMet_6 5 rfl rfl)
theorem dX7_readMet_146 : decode cX7_readMet 146 = .ok (.iload 4, 2) := dk_21 4 (dk_at dksX7_readMet_6 8 rfl rfl)
theorem dX7_readMet_148 : decode cX7_readMet 148 = .ok (.iload_n 1, 1) := dk_27 (dk_at dksX7_readMet_6 10 rfl rfl)
theorem dX7_readMet_149 : decode cX7_readMet 149 = .ok (.iload_n 2, 1) := dk_28 (dk_at dksX7_readMet_6 11 rfl rfl)
theorem dX7_readMet_150 : decode cX7_readMet 150 = .ok (.invokestatic 282, 3) := dk_184 1 26 (dk_at dksX7_readMet_6 12 rfl rfl)
theorem dX7_readMet_153 : decode cX7_readMet 153 = .ok (.iadd, 1) := dk_96 (dk_at dksX7_readMet_6 15 rfl rfl)
theorem dX7_readMet_154 : decode cX7_readMet 154 = .ok (.iaload, 1) := dk_46 (dk_at dksX7_readMet_6 16 rfl rfl)
theorem dX7_readMet_155 : decode cX7_readMet 155 = .ok (.iastore, 1) := dk_79 (dk_at dksX7_readMet_6 17 rfl rfl)
theorem dX7_readMet_156 : decode cX7_readMet 156 = .ok (.aload_n 0, 1) := dk_42 (dk_at dksX7_readMet_6 18 rfl rfl)
theorem dX7_readMet_157 : decode cX7_readMet 157 = .ok (.getfield 38, 3) := dk_180 0 38 (dk_at dksX7_readMet_6 19 rfl rfl)
theorem dX7_readMet_160 : decode cX7_readMet 160 = .ok (.bipush 8, 2) := dk_16 8 (dk_at dksX7_readMet_6 22 rfl rfl)
theorem dX7_readMet_162 : decode cX7_readMet 162 = .ok (.dup2, 1) := dk_92 (dk_at dksX7_readMet_7 0 rfl rfl)
theorem dX7_readMet_163 : decode cX7_readMet 163 = .ok (.iaload, 1) := dk_46 (dk_at dksX7_readMet_7 1 rfl rfl)
theorem dX7_readMet_164 : decode cX7_readMet 164 = .ok (.iconst 1, 1) := dk_4 (dk_at dksX7_readMet_7 2 rfl rfl)
theorem dX7_readMet_165 : decode cX7_readMet 165 = .ok (.iadd, 1) := dk_96 (dk_at dksX7_readMet_7 3 rfl rfl)
theorem dX7_readMet_166 : decode cX7_readMet 166 = .ok (.iastore, 1) := dk_79 (dk_at dksX7_readMet_7 4 rfl rfl)
theorem dX7_readMet_167 : decode cX7_readMet 167 = .ok (.return_, 1) := dk_177 (dk_at dksX7_readMet_7 5 rfl rfl)
abbrev cX7_couple : ByteArray := prog_21_method_9_code
def yX7_couple : MethodName := ⟨RX7, "couple", "(II)I"⟩
def dkwX7_couple_0 : List UInt8 := [16, 8, 26, 104, 27, 96, 172]
abbrev dktX7_couple_0 : List UInt8 := dkwX7_couple_0 ++ []
theorem dksX7_couple_0 : cX7_couple.data.toList.drop 0 = dktX7_couple_0 := by decide +kernel
theorem dX7_couple_0 : decode cX7_couple 0 = .ok (.bipush 8, 2) := dk_16 8 (dk_at dksX7_couple_0 0 rfl rfl)
theorem dX7_couple_2 : decode cX7_couple 2 = .ok (.iload_n 0, 1) := dk_26 (dk_at dksX7_couple_0 2 rfl rfl)
theorem dX7_couple_3 : decode cX7_couple 3 = .ok (.imul, 1) := dk_104 (dk_at dksX7_couple_0 3 rfl rfl)
theorem dX7_couple_4 : decode cX7_couple 4 = .ok (.iload_n 1, 1) := dk_27 (dk_at dksX7_couple_0 4 rfl rfl)
theorem dX7_couple_5 : decode cX7_couple 5 = .ok (.iadd, 1) := dk_96 (dk_at dksX7_couple_0 5 rfl rfl)
theorem dX7_couple_6 : decode cX7_couple 6 = .ok (.ireturn, 1) := dk_172 (dk_at dksX7_couple_0 6 rfl rfl)
abbrev cX7_takeOver : ByteArray := prog_21_method_37_code
def yX7_takeOver : MethodName := ⟨RX7, "takeOver", "()V"⟩
def dkwX7_takeOver_6 : List UInt8 := [3, 181, 1, 74, 42, 3, 181, 1, 77, 42, 3, 181, 1, 80, 42, 3, 181, 1, 84, 177]
abbrev dktX7_takeOver_6 : List UInt8 := dkwX7_takeOver_6 ++ []
def dkwX7_takeOver_5 : List UInt8 := [16, 8, 162, 0, 16, 42, 180, 0, 86, 27, 3, 79, 132, 1, 1, 167, 255, 240, 42, 3, 181, 1, 71, 42]
abbrev dktX7_takeOver_5 : List UInt8 := dkwX7_takeOver_5 ++ dktX7_takeOver_6
def dkwX7_takeOver_4 : List UInt8 := [3, 60, 27, 16, 6, 162, 0, 16, 42, 180, 0, 83, 27, 2, 79, 132, 1, 1, 167, 255, 240, 3, 60, 27]
abbrev dktX7_takeOver_4 : List UInt8 := dkwX7_takeOver_4 ++ dktX7_takeOver_5
def dkwX7_takeOver_3 : List UInt8 := [42, 180, 0, 67, 184, 1, 61, 42, 180, 0, 70, 184, 1, 61, 42, 3, 181, 1, 65, 42, 3, 181, 1, 68]
abbrev dktX7_takeOver_3 : List UInt8 := dkwX7_takeOver_3 ++ dktX7_takeOver_4
def dkwX7_takeOver_2 : List UInt8 := [184, 1, 61, 42, 180, 0, 58, 184, 1, 61, 42, 180, 0, 61, 184, 1, 61, 42, 180, 0, 64, 184, 1, 61]
abbrev dktX7_takeOver_2 : List UInt8 := dkwX7_takeOver_2 ++ dktX7_takeOver_3
def dkwX7_takeOver_1 : List UInt8 := [180, 0, 47, 184, 1, 61, 42, 180, 0, 49, 184, 1, 61, 42, 180, 0, 52, 184, 1, 61, 42, 180, 0, 55]
abbrev dktX7_takeOver_1 : List UInt8 := dkwX7_takeOver_1 ++ dktX7_takeOver_2
def dkwX7_takeOver_0 : List UInt8 := [42, 180, 0, 38, 184, 1, 61, 42, 180, 0, 42, 184, 1, 61, 42, 180, 0, 44, 184, 1, 61, 42]
abbrev dktX7_takeOver_0 : List UInt8 := dkwX7_takeOver_0 ++ dktX7_takeOver_1
theorem dksX7_takeOver_0 : cX7_takeOver.data.toList.drop 0 = dktX7_takeOver_0 := by decide +kernel
theorem dksX7_takeOver_1 : cX7_takeOver.data.toList.drop 22 = dktX7_takeOver_1 := dk_seg dksX7_takeOver_0 22 rfl rfl
theorem dksX7_takeOver_2 : cX7_takeOver.data.toList.drop 46 = dktX7_takeOver_2 := dk_seg dksX7_takeOver_1 24 rfl rfl
theorem dksX7_takeOver_3 : cX7_takeOver.data.toList.drop 70 = dktX7_takeOver_3 := dk_seg dksX7_takeOver_2 24 rfl rfl
theorem dksX7_takeOver_4 : cX7_takeOver.data.toList.drop 94 = dktX7_takeOver_4 := dk_seg dksX7_takeOver_3 24 rfl rfl
theorem dksX7_takeOver_5 : cX7_takeOver.data.toList.drop 118 = dktX7_takeOver_5 := dk_seg dksX7_takeOver_4 24 rfl rfl
theorem dksX7_takeOver_6 : cX7_takeOver.data.toList.drop 142 = dktX7_takeOver_6 := dk_seg dksX7_takeOver_5 24 rfl rfl
theorem dX7_takeOver_0 : decode cX7_takeOver 0 = .ok (.aload_n 0, 1) := dk_42 (dk_at dksX7_takeOver_0 0 rfl rfl)
theorem dX7_takeOver_1 : decode cX7_takeOver 1 = .ok (.getfield 38, 3) := dk_180 0 38 (dk_at dksX7_takeOver_0 1 rfl rfl)
theorem dX7_takeOver_4 : decode cX7_takeOver 4 = .ok (.invokestatic 317, 3) := dk_184 1 61 (dk_at dksX7_takeOver_0 4 rfl rfl)
theorem dX7_takeOver_7 : decode cX7_takeOver 7 = .ok (.aload_n 0, 1) := dk_42 (dk_at dksX7_takeOver_0 7 rfl rfl)
theorem dX7_takeOver_8 : decode cX7_takeOver 8 = .ok (.getfield 42, 3) := dk_180 0 42 (dk_at dksX7_takeOver_0 8 rfl rfl)
theorem dX7_takeOver_11 : decode cX7_takeOver 11 = .ok (.invokestatic 317, 3) := dk_184 1 61 (dk_at dksX7_takeOver_0 11 rfl rfl)
theorem dX7_takeOver_14 : decode cX7_takeOver 14 = .ok (.aload_n 0, 1) := dk_42 (dk_at dksX7_takeOver_0 14 rfl rfl)
theorem dX7_takeOver_15 : decode cX7_takeOver 15 = .ok (.getfield 44, 3) := dk_180 0 44 (dk_at dksX7_takeOver_0 15 rfl rfl)
theorem dX7_takeOver_18 : decode cX7_takeOver 18 = .ok (.invokestatic 317, 3) := dk_184 1 61 (dk_at dksX7_takeOver_0 18 rfl rfl)
theorem dX7_takeOver_21 : decode cX7_takeOver 21 = .ok (.aload_n 0, 1) := dk_42 (dk_at dksX7_takeOver_0 21 rfl rfl)
theorem dX7_takeOver_22 : decode cX7_takeOver 22 = .ok (.getfield 47, 3) := dk_180 0 47 (dk_at dksX7_takeOver_1 0 rfl rfl)
theorem dX7_takeOver_25 : decode cX7_takeOver 25 = .ok (.invokestatic 317, 3) := dk_184 1 61 (dk_at dksX7_takeOver_1 3 rfl rfl)
theorem dX7_takeOver_28 : decode cX7_takeOver 28 = .ok (.aload_n 0, 1) := dk_42 (dk_at dksX7_takeOver_1 6 rfl rfl)
theorem dX7_takeOver_29 : decode cX7_takeOver 29 = .ok (.getfield 49, 3) := dk_180 0 49 (dk_at dksX7_takeOver_1 7 rfl rfl)
theorem dX7_takeOver_32 : decode cX7_takeOver 32 = .ok (.invokestatic 317, 3) := dk_184 1 61 (dk_at dksX7_takeOver_1 10 rfl rfl)
theorem dX7_takeOver_35 : decode cX7_takeOver 35 = .ok (.aload_n 0, 1) := dk_42 (dk_at dksX7_takeOver_1 13 rfl rfl)
theorem dX7_takeOver_36 : decode cX7_takeOver 36 = .ok (.getfield 52, 3) := dk_180 0 52 (dk_at dksX7_takeOver_1 14 rfl rfl)
theorem dX7_takeOver_39 : decode cX7_takeOver 39 = .ok (.invokestatic 317, 3) := dk_184 1 61 (dk_at dksX7_takeOver_1 17 rfl rfl)
theorem dX7_takeOver_42 : decode cX7_takeOver 42 = .ok (.aload_n 0, 1) := dk_42 (dk_at dksX7_takeOver_1 20 rfl rfl)
theorem dX7_takeOver_43 : decode cX7_takeOver 43 = .ok (.getfield 55, 3) := dk_180 0 55 (dk_at dksX7_takeOver_1 21 rfl rfl)
theorem dX7_takeOver_46 : decode cX7_takeOver 46 = .ok (.invokestatic 317, 3) := dk_184 1 61 (dk_at dksX7_takeOver_2 0 rfl rfl)
theorem dX7_takeOver_49 : decode cX7_takeOver 49 = .ok (.aload_n 0, 1) := dk_42 (dk_at dksX7_takeOver_2 3 rfl rfl)
theorem dX7_takeOver_50 : decode cX7_takeOver 50 = .ok (.getfield 58, 3) := dk_180 0 58 (dk_at dksX7_takeOver_2 4 rfl rfl)
theorem dX7_takeOver_53 : decode cX7_takeOver 53 = .ok (.invokestatic 317, 3) := dk_184 1 61 (dk_at dksX7_takeOver_2 7 rfl rfl)
theorem dX7_takeOver_56 : decode cX7_takeOver 56 = .ok (.aload_n 0, 1) := dk_42 (dk_at dksX7_takeOver_2 10 rfl rfl)
theorem dX7_takeOver_57 : decode cX7_takeOver 57 = .ok (.getfield 61, 3) := dk_180 0 61 (dk_at dksX7_takeOver_2 11 rfl rfl)
theorem dX7_takeOver_60 : decode cX7_takeOver 60 = .ok (.invokestatic 317, 3) := dk_184 1 61 (dk_at dksX7_takeOver_2 14 rfl rfl)
theorem dX7_takeOver_63 : decode cX7_takeOver 63 = .ok (.aload_n 0, 1) := dk_42 (dk_at dksX7_takeOver_2 17 rfl rfl)
theorem dX7_takeOver_64 : decode cX7_takeOver 64 = .ok (.getfield 64, 3) := dk_180 0 64 (dk_at dksX7_takeOver_2 18 rfl rfl)
theorem dX7_takeOver_67 : decode cX7_takeOver 67 = .ok (.invokestatic 317, 3) := dk_184 1 61 (dk_at dksX7_takeOver_2 21 rfl rfl)
theorem dX7_takeOver_70 : decode cX7_takeOver 70 = .ok (.aload_n 0, 1) := dk_42 (dk_at dksX7_takeOver_3 0 rfl rfl)
theorem dX7_takeOver_71 : decode cX7_takeOver 71 = .ok (.getfield 67, 3) := dk_180 0 67 (dk_at dksX7_takeOver_3 1 rfl rfl)
theorem dX7_takeOver_74 : decode cX7_takeOver 74 = .ok (.invokestatic 317, 3) := dk_184 1 61 (dk_at dksX7_takeOver_3 4 rfl rfl)
theorem dX7_takeOver_77 : decode cX7_takeOver 77 = .ok (.aload_n 0, 1) := dk_42 (dk_at dksX7_takeOver_3 7 rfl rfl)
theorem dX7_takeOver_78 : decode cX7_takeOver 78 = .ok (.getfield 70, 3) := dk_180 0 70 (dk_at dksX7_takeOver_3 8 rfl rfl)
theorem dX7_takeOver_81 : decode cX7_takeOver 81 = .ok (.invokestatic 317, 3) := dk_184 1 61 (dk_at dksX7_takeOver_3 11 rfl rfl)
theorem dX7_takeOver_84 : decode cX7_takeOver 84 = .ok (.aload_n 0, 1) := dk_42 (dk_at dksX7_takeOver_3 14 rfl rfl)
theorem dX7_takeOver_85 : decode cX7_takeOver 85 = .ok (.iconst 0, 1) := dk_3 (dk_at dksX7_takeOver_3 15 rfl rfl)
theorem dX7_takeOver_86 : decode cX7_takeOver 86 = .ok (.putfield 321, 3) := dk_181 1 65 (dk_at dksX7_takeOver_3 16 rfl rfl)
theorem dX7_takeOver_89 : decode cX7_takeOver 89 = .ok (.aload_n 0, 1) := dk_42 (dk_at dksX7_takeOver_3 19 rfl rfl)
theorem dX7_takeOver_90 : decode cX7_takeOver 90 = .ok (.iconst 0, 1) := dk_3 (dk_at dksX7_takeOver_3 20 rfl rfl)
theorem dX7_takeOver_91 : decode cX7_takeOver 91 = .ok (.putfield 324, 3) := dk_181 1 68 (dk_at dksX7_takeOver_3 21 rfl rfl)
theorem dX7_takeOver_94 : decode cX7_takeOver 94 = .ok (.iconst 0, 1) := dk_3 (dk_at dksX7_takeOver_4 0 rfl rfl)
theorem dX7_takeOver_95 : decode cX7_takeOver 95 = .ok (.istore_n 1, 1) := dk_60 (dk_at dksX7_takeOver_4 1 rfl rfl)
theorem dX7_takeOver_96 : decode cX7_takeOver 96 = .ok (.iload_n 1, 1) := dk_27 (dk_at dksX7_takeOver_4 2 rfl rfl)
theorem dX7_takeOver_97 : decode cX7_takeOver 97 = .ok (.bipush 6, 2) := dk_16 6 (dk_at dksX7_takeOver_4 3 rfl rfl)
theorem dX7_takeOver_99 : decode cX7_takeOver 99 = .ok (.if_icmp .ge 16, 3) := dk_162 0 16 (dk_at dksX7_takeOver_4 5 rfl rfl)
theorem dX7_takeOver_102 : decode cX7_takeOver 102 = .ok (.aload_n 0, 1) := dk_42 (dk_at dksX7_takeOver_4 8 rfl rfl)
theorem dX7_takeOver_103 : decode cX7_takeOver 103 = .ok (.getfield 83, 3) := dk_180 0 83 (dk_at dksX7_takeOver_4 9 rfl rfl)
theorem dX7_takeOver_106 : decode cX7_takeOver 106 = .ok (.iload_n 1, 1) := dk_27 (dk_at dksX7_takeOver_4 12 rfl rfl)
theorem dX7_takeOver_107 : decode cX7_takeOver 107 = .ok (.iconst (-1), 1) := dk_2 (dk_at dksX7_takeOver_4 13 rfl rfl)
theorem dX7_takeOver_108 : decode cX7_takeOver 108 = .ok (.iastore, 1) := dk_79 (dk_at dksX7_takeOver_4 14 rfl rfl)
theorem dX7_takeOver_109 : decode cX7_takeOver 109 = .ok (.iinc 1 1, 3) := dk_132 1 1 (dk_at dksX7_takeOver_4 15 rfl rfl)
theorem dX7_takeOver_112 : decode cX7_takeOver 112 = .ok (.goto (-16), 3) := dk_167 255 240 (dk_at dksX7_takeOver_4 18 rfl rfl)
theorem dX7_takeOver_115 : decode cX7_takeOver 115 = .ok (.iconst 0, 1) := dk_3 (dk_at dksX7_takeOver_4 21 rfl rfl)
theorem dX7_takeOver_116 : decode cX7_takeOver 116 = .ok (.istore_n 1, 1) := dk_60 (dk_at dksX7_takeOver_4 22 rfl rfl)
theorem dX7_takeOver_117 : decode cX7_takeOver 117 = .ok (.iload_n 1, 1) := dk_27 (dk_at dksX7_takeOver_4 23 rfl rfl)
theorem dX7_takeOver_118 : decode cX7_takeOver 118 = .ok (.bipush 8, 2) := dk_16 8 (dk_at dksX7_takeOver_5 0 rfl rfl)
theorem dX7_takeOver_120 : decode cX7_takeOver 120 = .ok (.if_icmp .ge 16, 3) := dk_162 0 16 (dk_at dksX7_takeOver_5 2 rfl rfl)
theorem dX7_takeOver_123 : decode cX7_takeOver 123 = .ok (.aload_n 0, 1) := dk_42 (dk_at dksX7_takeOver_5 5 rfl rfl)
theorem dX7_takeOver_124 : decode cX7_takeOver 124 = .ok (.getfield 86, 3) := dk_180 0 86 (dk_at dksX7_takeOver_5 6 rfl rfl)
theorem dX7_takeOver_127 : decode cX7_takeOver 127 = .ok (.iload_n 1, 1) := dk_27 (dk_at dksX7_takeOver_5 9 rfl rfl)
theorem dX7_takeOver_128 : decode cX7_takeOver 128 = .ok (.iconst 0, 1) := dk_3 (dk_at dksX7_takeOver_5 10 rfl rfl)
theorem dX7_takeOver_129 : decode cX7_takeOver 129 = .ok (.iastore, 1) := dk_79 (dk_at dksX7_takeOver_5 11 rfl rfl)
theorem dX7_takeOver_130 : decode cX7_takeOver 130 = .ok (.iinc 1 1, 3) := dk_132 1 1 (dk_at dksX7_takeOver_5 12 rfl rfl)
theorem dX7_takeOver_133 : decode cX7_takeOver 133 = .ok (.goto (-16), 3) := dk_167 255 240 (dk_at dksX7_takeOver_5 15 rfl rfl)
theorem dX7_takeOver_136 : decode cX7_takeOver 136 = .ok (.aload_n 0, 1) := dk_42 (dk_at dksX7_takeOver_5 18 rfl rfl)
theorem dX7_takeOver_137 : decode cX7_takeOver 137 = .ok (.iconst 0, 1) := dk_3 (dk_at dksX7_takeOver_5 19 rfl rfl)
theorem dX7_takeOver_138 : decode cX7_takeOver 138 = .ok (.putfield 327, 3) := dk_181 1 71 (dk_at dksX7_takeOver_5 20 rfl rfl)
theorem dX7_takeOver_141 : decode cX7_takeOver 141 = .ok (.aload_n 0, 1) := dk_42 (dk_at dksX7_takeOver_5 23 rfl rfl)
theorem dX7_takeOver_142 : decode cX7_takeOver 142 = .ok (.iconst 0, 1) := dk_3 (dk_at dksX7_takeOver_6 0 rfl rfl)
theorem dX7_takeOver_143 : decode cX7_takeOver 143 = .ok (.putfield 330, 3) := dk_181 1 74 (dk_at dksX7_takeOver_6 1 rfl rfl)
theorem dX7_takeOver_146 : decode cX7_takeOver 146 = .ok (.aload_n 0, 1) := dk_42 (dk_at dksX7_takeOver_6 4 rfl rfl)
theorem dX7_takeOver_147 : decode cX7_takeOver 147 = .ok (.iconst 0, 1) := dk_3 (dk_at dksX7_takeOver_6 5 rfl rfl)
theorem dX7_takeOver_148 : decode cX7_takeOver 148 = .ok (.putfield 333, 3) := dk_181 1 77 (dk_at dksX7_takeOver_6 6 rfl rfl)
theorem dX7_takeOver_151 : decode cX7_takeOver 151 = .ok (.aload_n 0, 1) := dk_42 (dk_at dksX7_takeOver_6 9 rfl rfl)
theorem dX7_takeOver_152 : decode cX7_takeOver 152 = .ok (.iconst 0, 1) := dk_3 (dk_at dksX7_takeOver_6 10 rfl rfl)
theorem dX7_takeOver_153 : decode cX7_takeOver 153 = .ok (.putfield 336, 3) := dk_181 1 80 (dk_at dksX7_takeOver_6 11 rfl rfl)
theorem dX7_takeOver_156 : decode cX7_takeOver 156 = .ok (.aload_n 0, 1) := dk_42 (dk_at dksX7_takeOver_6 14 rfl rfl)
theorem dX7_takeOver_157 : decode cX7_takeOver 157 = .ok (.iconst 0, 1) := dk_3 (dk_at dksX7_takeOver_6 15 rfl rfl)
theorem dX7_takeOver_158 : decode cX7_takeOver 158 = .ok (.putfield 340, 3) := dk_181 1 84 (dk_at dksX7_takeOver_6 16 rfl rfl)
theorem dX7_takeOver_161 : decode cX7_takeOver 161 = .ok (.return_, 1) := dk_177 (dk_at dksX7_takeOver_6 19 rfl rfl)
abbrev cX7_takeHalf : ByteArray := prog_21_method_36_code
def yX7_takeHalf : MethodName := ⟨RX7, "takeHalf", "([I)V"⟩
def dkwX7_takeHalf_1 : List UInt8 := [167, 255, 234, 177]
abbrev dktX7_takeHalf_1 : List UInt8 := dkwX7_takeHalf_1 ++ []
def dkwX7_takeHalf_0 : List UInt8 := [3, 60, 27, 42, 190, 5, 108, 162, 0, 20, 42, 27, 42, 42, 190, 5, 108, 27, 96, 46, 79, 132, 1, 1]
abbrev dktX7_takeHalf_0 : List UInt8 := dkwX7_takeHalf_0 ++ dktX7_takeHalf_1
theorem dksX7_takeHalf_0 : cX7_takeHalf.data.toList.drop 0 = dktX7_takeHalf_0 := by decide +kernel
theorem dksX7_takeHalf_1 : cX7_takeHalf.data.toList.drop 24 = dktX7_takeHalf_1 := dk_seg dksX7_takeHalf_0 24 rfl rfl
theorem dX7_takeHalf_0 : decode cX7_takeHalf 0 = .ok (.iconst 0, 1) := dk_3 (dk_at dksX7_takeHalf_0 0 rfl rfl)
theorem dX7_takeHalf_1 : decode cX7_takeHalf 1 = .ok (.istore_n 1, 1) := dk_60 (dk_at dksX7_takeHalf_0 1 rfl rfl)
theorem dX7_takeHalf_2 : decode cX7_takeHalf 2 = .ok (.iload_n 1, 1) := dk_27 (dk_at dksX7_takeHalf_0 2 rfl rfl)
theorem dX7_takeHalf_3 : decode cX7_takeHalf 3 = .ok (.aload_n 0, 1) := dk_42 (dk_at dksX7_takeHalf_0 3 rfl rfl)
theorem dX7_takeHalf_4 : decode cX7_takeHalf 4 = .ok (.arraylength, 1) := dk_190 (dk_at dksX7_takeHalf_0 4 rfl rfl)
theorem dX7_takeHalf_5 : decode cX7_takeHalf 5 = .ok (.iconst 2, 1) := dk_5 (dk_at dksX7_takeHalf_0 5 rfl rfl)
theorem dX7_takeHalf_6 : decode cX7_takeHalf 6 = .ok (.idiv, 1) := dk_108 (dk_at dksX7_takeHalf_0 6 rfl rfl)
theorem dX7_takeHalf_7 : decode cX7_takeHalf 7 = .ok (.if_icmp .ge 20, 3) := dk_162 0 20 (dk_at dksX7_takeHalf_0 7 rfl rfl)
theorem dX7_takeHalf_10 : decode cX7_takeHalf 10 = .ok (.aload_n 0, 1) := dk_42 (dk_at dksX7_takeHalf_0 10 rfl rfl)
theorem dX7_takeHalf_11 : decode cX7_takeHalf 11 = .ok (.iload_n 1, 1) := dk_27 (dk_at dksX7_takeHalf_0 11 rfl rfl)
theorem dX7_takeHalf_12 : decode cX7_takeHalf 12 = .ok (.aload_n 0, 1) := dk_42 (dk_at dksX7_takeHalf_0 12 rfl rfl)
theorem dX7_takeHalf_13 : decode cX7_takeHalf 13 = .ok (.aload_n 0, 1) := dk_42 (dk_at dksX7_takeHalf_0 13 rfl rfl)
theorem dX7_takeHalf_14 : decode cX7_takeHalf 14 = .ok (.arraylength, 1) := dk_190 (dk_at dksX7_takeHalf_0 14 rfl rfl)
theorem dX7_takeHalf_15 : decode cX7_takeHalf 15 = .ok (.iconst 2, 1) := dk_5 (dk_at dksX7_takeHalf_0 15 rfl rfl)
theorem dX7_takeHalf_16 : decode cX7_takeHalf 16 = .ok (.idiv, 1) := dk_108 (dk_at dksX7_takeHalf_0 16 rfl rfl)
theorem dX7_takeHalf_17 : decode cX7_takeHalf 17 = .ok (.iload_n 1, 1) := dk_27 (dk_at dksX7_takeHalf_0 17 rfl rfl)
theorem dX7_takeHalf_18 : decode cX7_takeHalf 18 = .ok (.iadd, 1) := dk_96 (dk_at dksX7_takeHalf_0 18 rfl rfl)
theorem dX7_takeHalf_19 : decode cX7_takeHalf 19 = .ok (.iaload, 1) := dk_46 (dk_at dksX7_takeHalf_0 19 rfl rfl)
theorem dX7_takeHalf_20 : decode cX7_takeHalf 20 = .ok (.iastore, 1) := dk_79 (dk_at dksX7_takeHalf_0 20 rfl rfl)
theorem dX7_takeHalf_21 : decode cX7_takeHalf 21 = .ok (.iinc 1 1, 3) := dk_132 1 1 (dk_at dksX7_takeHalf_0 21 rfl rfl)
theorem dX7_takeHalf_24 : decode cX7_takeHalf 24 = .ok (.goto (-22), 3) := dk_167 255 234 (dk_at dksX7_takeHalf_1 0 rfl rfl)
theorem dX7_takeHalf_27 : decode cX7_takeHalf 27 = .ok (.return_, 1) := dk_177 (dk_at dksX7_takeHalf_1 3 rfl rfl)
abbrev cX7_fault : ByteArray := prog_21_method_38_code
def yX7_fault : MethodName := ⟨RX7, "fault", "()I"⟩
def dkwX7_fault_0 : List UInt8 := [42, 3, 181, 0, 159, 42, 180, 0, 79, 172]
abbrev dktX7_fault_0 : List UInt8 := dkwX7_fault_0 ++ []
theorem dksX7_fault_0 : cX7_fault.data.toList.drop 0 = dktX7_fault_0 := by decide +kernel
theorem dX7_fault_0 : decode cX7_fault 0 = .ok (.aload_n 0, 1) := dk_42 (dk_at dksX7_fault_0 0 rfl rfl)
theorem dX7_fault_1 : decode cX7_fault 1 = .ok (.iconst 0, 1) := dk_3 (dk_at dksX7_fault_0 1 rfl rfl)
theorem dX7_fault_2 : decode cX7_fault 2 = .ok (.putfield 159, 3) := dk_181 0 159 (dk_at dksX7_fault_0 2 rfl rfl)
theorem dX7_fault_5 : decode cX7_fault 5 = .ok (.aload_n 0, 1) := dk_42 (dk_at dksX7_fault_0 5 rfl rfl)
theorem dX7_fault_6 : decode cX7_fault 6 = .ok (.getfield 79, 3) := dk_180 0 79 (dk_at dksX7_fault_0 6 rfl rfl)
theorem dX7_fault_9 : decode cX7_fault 9 = .ok (.ireturn, 1) := dk_172 (dk_at dksX7_fault_0 9 rfl rfl)
abbrev cX7_count : ByteArray := prog_21_method_58_code
def yX7_count : MethodName := ⟨RX7, "count", "(I)I"⟩
def dkwX7_count_6 : List UInt8 := [180, 0, 73, 27, 16, 12, 100, 46, 172, 42, 4, 182, 1, 51, 172]
abbrev dktX7_count_6 : List UInt8 := dkwX7_count_6 ++ []
def dkwX7_count_5 : List UInt8 := [172, 42, 180, 1, 71, 172, 42, 180, 1, 74, 172, 42, 180, 1, 77, 172, 42, 180, 0, 166, 172, 42]
abbrev dktX7_count_5 : List UInt8 := dkwX7_count_5 ++ dktX7_count_6
def dkwX7_count_4 : List UInt8 := [46, 2, 160, 0, 7, 3, 167, 0, 4, 4, 96, 61, 132, 3, 1, 167, 255, 225, 28, 172, 42, 182, 1, 130]
abbrev dktX7_count_4 : List UInt8 := dkwX7_count_4 ++ dktX7_count_5
def dkwX7_count_3 : List UInt8 := [180, 1, 68, 172, 3, 61, 3, 62, 29, 42, 180, 0, 38, 4, 46, 162, 0, 27, 28, 42, 180, 0, 83, 29]
abbrev dktX7_count_3 : List UInt8 := dkwX7_count_3 ++ dktX7_count_4
def dkwX7_count_2 : List UInt8 := [42, 180, 0, 38, 27, 46, 172, 42, 180, 0, 38, 27, 4, 96, 46, 172, 42, 180, 1, 65, 172, 42]
abbrev dktX7_count_2 : List UInt8 := dkwX7_count_2 ++ dktX7_count_3
def dkwX7_count_1 : List UInt8 := [170, 0, 0, 0, 0, 175, 0, 0, 0, 0, 0, 0, 0, 14, 0, 0, 0, 74, 0, 0, 0, 74, 0, 0, 0, 81, 0, 0, 0, 81, 0, 0, 0, 90, 0, 0, 0, 95, 0, 0, 0, 100, 0, 0, 0, 140, 0, 0, 0, 145, 0, 0, 0, 150, 0, 0, 0, 155, 0, 0, 0, 160, 0, 0, 0, 165, 0, 0, 0, 165, 0, 0, 0, 165]
abbrev dktX7_count_1 : List UInt8 := dkwX7_count_1 ++ dktX7_count_2
def dkwX7_count_0 : List UInt8 := [42, 3, 181, 0, 159, 27]
abbrev dktX7_count_0 : List UInt8 := dkwX7_count_0 ++ dktX7_count_1
theorem dksX7_count_0 : cX7_count.data.toList.drop 0 = dktX7_count_0 := by decide +kernel
theorem dksX7_count_1 : cX7_count.data.toList.drop 6 = dktX7_count_1 := dk_seg dksX7_count_0 6 rfl rfl
theorem dksX7_count_2 : cX7_count.data.toList.drop 80 = dktX7_count_2 := dk_seg dksX7_count_1 74 rfl rfl
theorem dksX7_count_3 : cX7_count.data.toList.drop 102 = dktX7_count_3 := dk_seg dksX7_count_2 22 rfl rfl
theorem dksX7_count_4 : cX7_count.data.toList.drop 126 = dktX7_count_4 := dk_seg dksX7_count_3 24 rfl rfl
theorem dksX7_count_5 : cX7_count.data.toList.drop 150 = dktX7_count_5 := dk_seg dksX7_count_4 24 rfl rfl
theorem dksX7_count_6 : cX7_count.data.toList.drop 172 = dktX7_count_6 := dk_seg dksX7_count_5 22 rfl rfl
theorem dX7_count_0 : decode cX7_count 0 = .ok (.aload_n 0, 1) := dk_42 (dk_at dksX7_count_0 0 rfl rfl)
theorem dX7_count_1 : decode cX7_count 1 = .ok (.iconst 0, 1) := dk_3 (dk_at dksX7_count_0 1 rfl rfl)
theorem dX7_count_2 : decode cX7_count 2 = .ok (.putfield 159, 3) := dk_181 0 159 (dk_at dksX7_count_0 2 rfl rfl)
theorem dX7_count_5 : decode cX7_count 5 = .ok (.iload_n 1, 1) := dk_27 (dk_at dksX7_count_0 5 rfl rfl)
theorem dX7_count_6 : decode cX7_count 6 = .ok (.tableswitch 175 0 14 #[74, 74, 81, 81, 90, 95, 100, 140, 145, 150, 155, 160, 165, 165, 165], 74) := by decide +kernel
theorem dX7_count_80 : decode cX7_count 80 = .ok (.aload_n 0, 1) := dk_42 (dk_at dksX7_count_2 0 rfl rfl)
theorem dX7_count_81 : decode cX7_count 81 = .ok (.getfield 38, 3) := dk_180 0 38 (dk_at dksX7_count_2 1 rfl rfl)
theorem dX7_count_84 : decode cX7_count 84 = .ok (.iload_n 1, 1) := dk_27 (dk_at dksX7_count_2 4 rfl rfl)
theorem dX7_count_85 : decode cX7_count 85 = .ok (.iaload, 1) := dk_46 (dk_at dksX7_count_2 5 rfl rfl)
theorem dX7_count_86 : decode cX7_count 86 = .ok (.ireturn, 1) := dk_172 (dk_at dksX7_count_2 6 rfl rfl)
theorem dX7_count_87 : decode cX7_count 87 = .ok (.aload_n 0, 1) := dk_42 (dk_at dksX7_count_2 7 rfl rfl)
theorem dX7_count_88 : decode cX7_count 88 = .ok (.getfield 38, 3) := dk_180 0 38 (dk_at dksX7_count_2 8 rfl rfl)
theorem dX7_count_91 : decode cX7_count 91 = .ok (.iload_n 1, 1) := dk_27 (dk_at dksX7_count_2 11 rfl rfl)
theorem dX7_count_92 : decode cX7_count 92 = .ok (.iconst 1, 1) := dk_4 (dk_at dksX7_count_2 12 rfl rfl)
theorem dX7_count_93 : decode cX7_count 93 = .ok (.iadd, 1) := dk_96 (dk_at dksX7_count_2 13 rfl rfl)
theorem dX7_count_94 : decode cX7_count 94 = .ok (.iaload, 1) := dk_46 (dk_at dksX7_count_2 14 rfl rfl)
theorem dX7_count_95 : decode cX7_count 95 = .ok (.ireturn, 1) := dk_172 (dk_at dksX7_count_2 15 rfl rfl)
theorem dX7_count_96 : decode cX7_count 96 = .ok (.aload_n 0, 1) := dk_42 (dk_at dksX7_count_2 16 rfl rfl)
theorem dX7_count_97 : decode cX7_count 97 = .ok (.getfield 321, 3) := dk_180 1 65 (dk_at dksX7_count_2 17 rfl rfl)
theorem dX7_count_100 : decode cX7_count 100 = .ok (.ireturn, 1) := dk_172 (dk_at dksX7_count_2 20 rfl rfl)
theorem dX7_count_101 : decode cX7_count 101 = .ok (.aload_n 0, 1) := dk_42 (dk_at dksX7_count_2 21 rfl rfl)
theorem dX7_count_102 : decode cX7_count 102 = .ok (.getfield 324, 3) := dk_180 1 68 (dk_at dksX7_count_3 0 rfl rfl)
theorem dX7_count_105 : decode cX7_count 105 = .ok (.ireturn, 1) := dk_172 (dk_at dksX7_count_3 3 rfl rfl)
theorem dX7_count_106 : decode cX7_count 106 = .ok (.iconst 0, 1) := dk_3 (dk_at dksX7_count_3 4 rfl rfl)
theorem dX7_count_107 : decode cX7_count 107 = .ok (.istore_n 2, 1) := dk_61 (dk_at dksX7_count_3 5 rfl rfl)
theorem dX7_count_108 : decode cX7_count 108 = .ok (.iconst 0, 1) := dk_3 (dk_at dksX7_count_3 6 rfl rfl)
theorem dX7_count_109 : decode cX7_count 109 = .ok (.istore_n 3, 1) := dk_62 (dk_at dksX7_count_3 7 rfl rfl)
theorem dX7_count_110 : decode cX7_count 110 = .ok (.iload_n 3, 1) := dk_29 (dk_at dksX7_count_3 8 rfl rfl)
theorem dX7_count_111 : decode cX7_count 111 = .ok (.aload_n 0, 1) := dk_42 (dk_at dksX7_count_3 9 rfl rfl)
theorem dX7_count_112 : decode cX7_count 112 = .ok (.getfield 38, 3) := dk_180 0 38 (dk_at dksX7_count_3 10 rfl rfl)
theorem dX7_count_115 : decode cX7_count 115 = .ok (.iconst 1, 1) := dk_4 (dk_at dksX7_count_3 13 rfl rfl)
theorem dX7_count_116 : decode cX7_count 116 = .ok (.iaload, 1) := dk_46 (dk_at dksX7_count_3 14 rfl rfl)
theorem dX7_count_117 : decode cX7_count 117 = .ok (.if_icmp .ge 27, 3) := dk_162 0 27 (dk_at dksX7_count_3 15 rfl rfl)
theorem dX7_count_120 : decode cX7_count 120 = .ok (.iload_n 2, 1) := dk_28 (dk_at dksX7_count_3 18 rfl rfl)
theorem dX7_count_121 : decode cX7_count 121 = .ok (.aload_n 0, 1) := dk_42 (dk_at dksX7_count_3 19 rfl rfl)
theorem dX7_count_122 : decode cX7_count 122 = .ok (.getfield 83, 3) := dk_180 0 83 (dk_at dksX7_count_3 20 rfl rfl)
theorem dX7_count_125 : decode cX7_count 125 = .ok (.iload_n 3, 1) := dk_29 (dk_at dksX7_count_3 23 rfl rfl)
theorem dX7_count_126 : decode cX7_count 126 = .ok (.iaload, 1) := dk_46 (dk_at dksX7_count_4 0 rfl rfl)
theorem dX7_count_127 : decode cX7_count 127 = .ok (.iconst (-1), 1) := dk_2 (dk_at dksX7_count_4 1 rfl rfl)
theorem dX7_count_128 : decode cX7_count 128 = .ok (.if_icmp .ne 7, 3) := dk_160 0 7 (dk_at dksX7_count_4 2 rfl rfl)
theorem dX7_count_131 : decode cX7_count 131 = .ok (.iconst 0, 1) := dk_3 (dk_at dksX7_count_4 5 rfl rfl)
theorem dX7_count_132 : decode cX7_count 132 = .ok (.goto 4, 3) := dk_167 0 4 (dk_at dksX7_count_4 6 rfl rfl)
theorem dX7_count_135 : decode cX7_count 135 = .ok (.iconst 1, 1) := dk_4 (dk_at dksX7_count_4 9 rfl rfl)
theorem dX7_count_136 : decode cX7_count 136 = .ok (.iadd, 1) := dk_96 (dk_at dksX7_count_4 10 rfl rfl)
theorem dX7_count_137 : decode cX7_count 137 = .ok (.istore_n 2, 1) := dk_61 (dk_at dksX7_count_4 11 rfl rfl)
theorem dX7_count_138 : decode cX7_count 138 = .ok (.iinc 3 1, 3) := dk_132 3 1 (dk_at dksX7_count_4 12 rfl rfl)
theorem dX7_count_141 : decode cX7_count 141 = .ok (.goto (-31), 3) := dk_167 255 225 (dk_at dksX7_count_4 15 rfl rfl)
theorem dX7_count_144 : decode cX7_count 144 = .ok (.iload_n 2, 1) := dk_28 (dk_at dksX7_count_4 18 rfl rfl)
theorem dX7_count_145 : decode cX7_count 145 = .ok (.ireturn, 1) := dk_172 (dk_at dksX7_count_4 19 rfl rfl)
theorem dX7_count_146 : decode cX7_count 146 = .ok (.aload_n 0, 1) := dk_42 (dk_at dksX7_count_4 20 rfl rfl)
theorem dX7_count_147 : decode cX7_count 147 = .ok (.invokevirtual 386, 3) := dk_182 1 130 (dk_at dksX7_count_4 21 rfl rfl)
theorem dX7_count_150 : decode cX7_count 150 = .ok (.ireturn, 1) := dk_172 (dk_at dksX7_count_5 0 rfl rfl)
theorem dX7_count_151 : decode cX7_count 151 = .ok (.aload_n 0, 1) := dk_42 (dk_at dksX7_count_5 1 rfl rfl)
theorem dX7_count_152 : decode cX7_count 152 = .ok (.getfield 327, 3) := dk_180 1 71 (dk_at dksX7_count_5 2 rfl rfl)
theorem dX7_count_155 : decode cX7_count 155 = .ok (.ireturn, 1) := dk_172 (dk_at dksX7_count_5 5 rfl rfl)
theorem dX7_count_156 : decode cX7_count 156 = .ok (.aload_n 0, 1) := dk_42 (dk_at dksX7_count_5 6 rfl rfl)
theorem dX7_count_157 : decode cX7_count 157 = .ok (.getfield 330, 3) := dk_180 1 74 (dk_at dksX7_count_5 7 rfl rfl)
theorem dX7_count_160 : decode cX7_count 160 = .ok (.ireturn, 1) := dk_172 (dk_at dksX7_count_5 10 rfl rfl)
theorem dX7_count_161 : decode cX7_count 161 = .ok (.aload_n 0, 1) := dk_42 (dk_at dksX7_count_5 11 rfl rfl)
theorem dX7_count_162 : decode cX7_count 162 = .ok (.getfield 333, 3) := dk_180 1 77 (dk_at dksX7_count_5 12 rfl rfl)
theorem dX7_count_165 : decode cX7_count 165 = .ok (.ireturn, 1) := dk_172 (dk_at dksX7_count_5 15 rfl rfl)
theorem dX7_count_166 : decode cX7_count 166 = .ok (.aload_n 0, 1) := dk_42 (dk_at dksX7_count_5 16 rfl rfl)
theorem dX7_count_167 : decode cX7_count 167 = .ok (.getfield 166, 3) := dk_180 0 166 (dk_at dksX7_count_5 17 rfl rfl)
theorem dX7_count_170 : decode cX7_count 170 = .ok (.ireturn, 1) := dk_172 (dk_at dksX7_count_5 20 rfl rfl)
theorem dX7_count_171 : decode cX7_count 171 = .ok (.aload_n 0, 1) := dk_42 (dk_at dksX7_count_5 21 rfl rfl)
theorem dX7_count_172 : decode cX7_count 172 = .ok (.getfield 73, 3) := dk_180 0 73 (dk_at dksX7_count_6 0 rfl rfl)
theorem dX7_count_175 : decode cX7_count 175 = .ok (.iload_n 1, 1) := dk_27 (dk_at dksX7_count_6 3 rfl rfl)
theorem dX7_count_176 : decode cX7_count 176 = .ok (.bipush 12, 2) := dk_16 12 (dk_at dksX7_count_6 4 rfl rfl)
theorem dX7_count_178 : decode cX7_count 178 = .ok (.isub, 1) := dk_100 (dk_at dksX7_count_6 6 rfl rfl)
theorem dX7_count_179 : decode cX7_count 179 = .ok (.iaload, 1) := dk_46 (dk_at dksX7_count_6 7 rfl rfl)
theorem dX7_count_180 : decode cX7_count 180 = .ok (.ireturn, 1) := dk_172 (dk_at dksX7_count_6 8 rfl rfl)
theorem dX7_count_181 : decode cX7_count 181 = .ok (.aload_n 0, 1) := dk_42 (dk_at dksX7_count_6 9 rfl rfl)
theorem dX7_count_182 : decode cX7_count 182 = .ok (.iconst 1, 1) := dk_4 (dk_at dksX7_count_6 10 rfl rfl)
theorem dX7_count_183 : decode cX7_count 183 = .ok (.invokevirtual 307, 3) := dk_182 1 51 (dk_at dksX7_count_6 11 rfl rfl)
theorem dX7_count_186 : decode cX7_count 186 = .ok (.ireturn, 1) := dk_172 (dk_at dksX7_count_6 14 rfl rfl)
abbrev cX7_knownBoth : ByteArray := prog_21_method_45_code
def yX7_knownBoth : MethodName := ⟨RX7, "knownBoth", "()I"⟩
def dkwX7_knownBoth_2 : List UInt8 := [167, 0, 4, 3, 96, 60, 132, 3, 1, 167, 255, 217, 132, 2, 1, 167, 255, 197, 27, 172]
abbrev dktX7_knownBoth_2 : List UInt8 := dkwX7_knownBoth_2 ++ []
def dkwX7_knownBoth_1 : List UInt8 := [46, 162, 0, 35, 27, 42, 28, 29, 182, 1, 93, 153, 0, 16, 42, 29, 28, 182, 1, 93, 153, 0, 7, 4]
abbrev dktX7_knownBoth_1 : List UInt8 := dkwX7_knownBoth_1 ++ dktX7_knownBoth_2
def dkwX7_knownBoth_0 : List UInt8 := [3, 60, 3, 61, 28, 42, 180, 0, 38, 3, 46, 162, 0, 55, 28, 4, 96, 62, 29, 42, 180, 0, 38, 3]
abbrev dktX7_knownBoth_0 : List UInt8 := dkwX7_knownBoth_0 ++ dktX7_knownBoth_1
theorem dksX7_knownBoth_0 : cX7_knownBoth.data.toList.drop 0 = dktX7_knownBoth_0 := by decide +kernel
theorem dksX7_knownBoth_1 : cX7_knownBoth.data.toList.drop 24 = dktX7_knownBoth_1 := dk_seg dksX7_knownBoth_0 24 rfl rfl
theorem dksX7_knownBoth_2 : cX7_knownBoth.data.toList.drop 48 = dktX7_knownBoth_2 := dk_seg dksX7_knownBoth_1 24 rfl rfl
theorem dX7_knownBoth_0 : decode cX7_knownBoth 0 = .ok (.iconst 0, 1) := dk_3 (dk_at dksX7_knownBoth_0 0 rfl rfl)
theorem dX7_knownBoth_1 : decode cX7_knownBoth 1 = .ok (.istore_n 1, 1) := dk_60 (dk_at dksX7_knownBoth_0 1 rfl rfl)
theorem dX7_knownBoth_2 : decode cX7_knownBoth 2 = .ok (.iconst 0, 1) := dk_3 (dk_at dksX7_knownBoth_0 2 rfl rfl)
theorem dX7_knownBoth_3 : decode cX7_knownBoth 3 = .ok (.istore_n 2, 1) := dk_61 (dk_at dksX7_knownBoth_0 3 rfl rfl)
theorem dX7_knownBoth_4 : decode cX7_knownBoth 4 = .ok (.iload_n 2, 1) := dk_28 (dk_at dksX7_knownBoth_0 4 rfl rfl)
theorem dX7_knownBoth_5 : decode cX7_knownBoth 5 = .ok (.aload_n 0, 1) := dk_42 (dk_at dksX7_knownBoth_0 5 rfl rfl)
theorem dX7_knownBoth_6 : decode cX7_knownBoth 6 = .ok (.getfield 38, 3) := dk_180 0 38 (dk_at dksX7_knownBoth_0 6 rfl rfl)
theorem dX7_knownBoth_9 : decode cX7_knownBoth 9 = .ok (.iconst 0, 1) := dk_3 (dk_at dksX7_knownBoth_0 9 rfl rfl)
theorem dX7_knownBoth_10 : decode cX7_knownBoth 10 = .ok (.iaload, 1) := dk_46 (dk_at dksX7_knownBoth_0 10 rfl rfl)
theorem dX7_knownBoth_11 : decode cX7_knownBoth 11 = .ok (.if_icmp .ge 55, 3) := dk_162 0 55 (dk_at dksX7_knownBoth_0 11 rfl rfl)
theorem dX7_knownBoth_14 : decode cX7_knownBoth 14 = .ok (.iload_n 2, 1) := dk_28 (dk_at dksX7_knownBoth_0 14 rfl rfl)
theorem dX7_knownBoth_15 : decode cX7_knownBoth 15 = .ok (.iconst 1, 1) := dk_4 (dk_at dksX7_knownBoth_0 15 rfl rfl)
theorem dX7_knownBoth_16 : decode cX7_knownBoth 16 = .ok (.iadd, 1) := dk_96 (dk_at dksX7_knownBoth_0 16 rfl rfl)
theorem dX7_knownBoth_17 : decode cX7_knownBoth 17 = .ok (.istore_n 3, 1) := dk_62 (dk_at dksX7_knownBoth_0 17 rfl rfl)
theorem dX7_knownBoth_18 : decode cX7_knownBoth 18 = .ok (.iload_n 3, 1) := dk_29 (dk_at dksX7_knownBoth_0 18 rfl rfl)
theorem dX7_knownBoth_19 : decode cX7_knownBoth 19 = .ok (.aload_n 0, 1) := dk_42 (dk_at dksX7_knownBoth_0 19 rfl rfl)
theorem dX7_knownBoth_20 : decode cX7_knownBoth 20 = .ok (.getfield 38, 3) := dk_180 0 38 (dk_at dksX7_knownBoth_0 20 rfl rfl)
theorem dX7_knownBoth_23 : decode cX7_knownBoth 23 = .ok (.iconst 0, 1) := dk_3 (dk_at dksX7_knownBoth_0 23 rfl rfl)
theorem dX7_knownBoth_24 : decode cX7_knownBoth 24 = .ok (.iaload, 1) := dk_46 (dk_at dksX7_knownBoth_1 0 rfl rfl)
theorem dX7_knownBoth_25 : decode cX7_knownBoth 25 = .ok (.if_icmp .ge 35, 3) := dk_162 0 35 (dk_at dksX7_knownBoth_1 1 rfl rfl)
theorem dX7_knownBoth_28 : decode cX7_knownBoth 28 = .ok (.iload_n 1, 1) := dk_27 (dk_at dksX7_knownBoth_1 4 rfl rfl)
theorem dX7_knownBoth_29 : decode cX7_knownBoth 29 = .ok (.aload_n 0, 1) := dk_42 (dk_at dksX7_knownBoth_1 5 rfl rfl)
theorem dX7_knownBoth_30 : decode cX7_knownBoth 30 = .ok (.iload_n 2, 1) := dk_28 (dk_at dksX7_knownBoth_1 6 rfl rfl)
theorem dX7_knownBoth_31 : decode cX7_knownBoth 31 = .ok (.iload_n 3, 1) := dk_29 (dk_at dksX7_knownBoth_1 7 rfl rfl)
theorem dX7_knownBoth_32 : decode cX7_knownBoth 32 = .ok (.invokevirtual 349, 3) := dk_182 1 93 (dk_at dksX7_knownBoth_1 8 rfl rfl)
theorem dX7_knownBoth_35 : decode cX7_knownBoth 35 = .ok (.ifCond .eq 16, 3) := dk_153 0 16 (dk_at dksX7_knownBoth_1 11 rfl rfl)
theorem dX7_knownBoth_38 : decode cX7_knownBoth 38 = .ok (.aload_n 0, 1) := dk_42 (dk_at dksX7_knownBoth_1 14 rfl rfl)
theorem dX7_knownBoth_39 : decode cX7_knownBoth 39 = .ok (.iload_n 3, 1) := dk_29 (dk_at dksX7_knownBoth_1 15 rfl rfl)
theorem dX7_knownBoth_40 : decode cX7_knownBoth 40 = .ok (.iload_n 2, 1) := dk_28 (dk_at dksX7_knownBoth_1 16 rfl rfl)
theorem dX7_knownBoth_41 : decode cX7_knownBoth 41 = .ok (.invokevirtual 349, 3) := dk_182 1 93 (dk_at dksX7_knownBoth_1 17 rfl rfl)
theorem dX7_knownBoth_44 : decode cX7_knownBoth 44 = .ok (.ifCond .eq 7, 3) := dk_153 0 7 (dk_at dksX7_knownBoth_1 20 rfl rfl)
theorem dX7_knownBoth_47 : decode cX7_knownBoth 47 = .ok (.iconst 1, 1) := dk_4 (dk_at dksX7_knownBoth_1 23 rfl rfl)
theorem dX7_knownBoth_48 : decode cX7_knownBoth 48 = .ok (.goto 4, 3) := dk_167 0 4 (dk_at dksX7_knownBoth_2 0 rfl rfl)
theorem dX7_knownBoth_51 : decode cX7_knownBoth 51 = .ok (.iconst 0, 1) := dk_3 (dk_at dksX7_knownBoth_2 3 rfl rfl)
theorem dX7_knownBoth_52 : decode cX7_knownBoth 52 = .ok (.iadd, 1) := dk_96 (dk_at dksX7_knownBoth_2 4 rfl rfl)
theorem dX7_knownBoth_53 : decode cX7_knownBoth 53 = .ok (.istore_n 1, 1) := dk_60 (dk_at dksX7_knownBoth_2 5 rfl rfl)
theorem dX7_knownBoth_54 : decode cX7_knownBoth 54 = .ok (.iinc 3 1, 3) := dk_132 3 1 (dk_at dksX7_knownBoth_2 6 rfl rfl)
theorem dX7_knownBoth_57 : decode cX7_knownBoth 57 = .ok (.goto (-39), 3) := dk_167 255 217 (dk_at dksX7_knownBoth_2 9 rfl rfl)
theorem dX7_knownBoth_60 : decode cX7_knownBoth 60 = .ok (.iinc 2 1, 3) := dk_132 2 1 (dk_at dksX7_knownBoth_2 12 rfl rfl)
theorem dX7_knownBoth_63 : decode cX7_knownBoth 63 = .ok (.goto (-59), 3) := dk_167 255 197 (dk_at dksX7_knownBoth_2 15 rfl rfl)
theorem dX7_knownBoth_66 : decode cX7_knownBoth 66 = .ok (.iload_n 1, 1) := dk_27 (dk_at dksX7_knownBoth_2 18 rfl rfl)
theorem dX7_knownBoth_67 : decode cX7_knownBoth 67 = .ok (.ireturn, 1) := dk_172 (dk_at dksX7_knownBoth_2 19 rfl rfl)
abbrev cX7_isKnown : ByteArray := prog_21_method_43_code
def yX7_isKnown : MethodName := ⟨RX7, "isKnown", "(II)Z"⟩
def dkwX7_isKnown_3 : List UInt8 := [6, 46, 163, 0, 7, 4, 167, 0, 4, 3, 172]
abbrev dktX7_isKnown_3 : List UInt8 := dkwX7_isKnown_3 ++ []
def dkwX7_isKnown_2 : List UInt8 := [182, 1, 90, 19, 1, 54, 159, 0, 27, 42, 180, 1, 65, 42, 27, 28, 182, 1, 90, 100, 42, 180, 0, 38]
abbrev dktX7_isKnown_2 : List UInt8 := dkwX7_isKnown_2 ++ dktX7_isKnown_3
def dkwX7_isKnown_1 : List UInt8 := [182, 1, 87, 28, 160, 0, 5, 4, 172, 42, 180, 0, 42, 27, 46, 5, 159, 0, 39, 42, 27, 28]
abbrev dktX7_isKnown_1 : List UInt8 := dkwX7_isKnown_1 ++ dktX7_isKnown_2
def dkwX7_isKnown_0 : List UInt8 := [27, 28, 159, 0, 27, 42, 180, 0, 44, 27, 46, 42, 180, 0, 44, 28, 46, 159, 0, 12, 42, 27]
abbrev dktX7_isKnown_0 : List UInt8 := dkwX7_isKnown_0 ++ dktX7_isKnown_1
theorem dksX7_isKnown_0 : cX7_isKnown.data.toList.drop 0 = dktX7_isKnown_0 := by decide +kernel
theorem dksX7_isKnown_1 : cX7_isKnown.data.toList.drop 22 = dktX7_isKnown_1 := dk_seg dksX7_isKnown_0 22 rfl rfl
theorem dksX7_isKnown_2 : cX7_isKnown.data.toList.drop 44 = dktX7_isKnown_2 := dk_seg dksX7_isKnown_1 22 rfl rfl
theorem dksX7_isKnown_3 : cX7_isKnown.data.toList.drop 68 = dktX7_isKnown_3 := dk_seg dksX7_isKnown_2 24 rfl rfl
theorem dX7_isKnown_0 : decode cX7_isKnown 0 = .ok (.iload_n 1, 1) := dk_27 (dk_at dksX7_isKnown_0 0 rfl rfl)
theorem dX7_isKnown_1 : decode cX7_isKnown 1 = .ok (.iload_n 2, 1) := dk_28 (dk_at dksX7_isKnown_0 1 rfl rfl)
theorem dX7_isKnown_2 : decode cX7_isKnown 2 = .ok (.if_icmp .eq 27, 3) := dk_159 0 27 (dk_at dksX7_isKnown_0 2 rfl rfl)
theorem dX7_isKnown_5 : decode cX7_isKnown 5 = .ok (.aload_n 0, 1) := dk_42 (dk_at dksX7_isKnown_0 5 rfl rfl)
theorem dX7_isKnown_6 : decode cX7_isKnown 6 = .ok (.getfield 44, 3) := dk_180 0 44 (dk_at dksX7_isKnown_0 6 rfl rfl)
theorem dX7_isKnown_9 : decode cX7_isKnown 9 = .ok (.iload_n 1, 1) := dk_27 (dk_at dksX7_isKnown_0 9 rfl rfl)
theorem dX7_isKnown_10 : decode cX7_isKnown 10 = .ok (.iaload, 1) := dk_46 (dk_at dksX7_isKnown_0 10 rfl rfl)
theorem dX7_isKnown_11 : decode cX7_isKnown 11 = .ok (.aload_n 0, 1) := dk_42 (dk_at dksX7_isKnown_0 11 rfl rfl)
theorem dX7_isKnown_12 : decode cX7_isKnown 12 = .ok (.getfield 44, 3) := dk_180 0 44 (dk_at dksX7_isKnown_0 12 rfl rfl)
theorem dX7_isKnown_15 : decode cX7_isKnown 15 = .ok (.iload_n 2, 1) := dk_28 (dk_at dksX7_isKnown_0 15 rfl rfl)
theorem dX7_isKnown_16 : decode cX7_isKnown 16 = .ok (.iaload, 1) := dk_46 (dk_at dksX7_isKnown_0 16 rfl rfl)
theorem dX7_isKnown_17 : decode cX7_isKnown 17 = .ok (.if_icmp .eq 12, 3) := dk_159 0 12 (dk_at dksX7_isKnown_0 17 rfl rfl)
theorem dX7_isKnown_20 : decode cX7_isKnown 20 = .ok (.aload_n 0, 1) := dk_42 (dk_at dksX7_isKnown_0 20 rfl rfl)
theorem dX7_isKnown_21 : decode cX7_isKnown 21 = .ok (.iload_n 1, 1) := dk_27 (dk_at dksX7_isKnown_0 21 rfl rfl)
theorem dX7_isKnown_22 : decode cX7_isKnown 22 = .ok (.invokevirtual 343, 3) := dk_182 1 87 (dk_at dksX7_isKnown_1 0 rfl rfl)
theorem dX7_isKnown_25 : decode cX7_isKnown 25 = .ok (.iload_n 2, 1) := dk_28 (dk_at dksX7_isKnown_1 3 rfl rfl)
theorem dX7_isKnown_26 : decode cX7_isKnown 26 = .ok (.if_icmp .ne 5, 3) := dk_160 0 5 (dk_at dksX7_isKnown_1 4 rfl rfl)
theorem dX7_isKnown_29 : decode cX7_isKnown 29 = .ok (.iconst 1, 1) := dk_4 (dk_at dksX7_isKnown_1 7 rfl rfl)
theorem dX7_isKnown_30 : decode cX7_isKnown 30 = .ok (.ireturn, 1) := dk_172 (dk_at dksX7_isKnown_1 8 rfl rfl)
theorem dX7_isKnown_31 : decode cX7_isKnown 31 = .ok (.aload_n 0, 1) := dk_42 (dk_at dksX7_isKnown_1 9 rfl rfl)
theorem dX7_isKnown_32 : decode cX7_isKnown 32 = .ok (.getfield 42, 3) := dk_180 0 42 (dk_at dksX7_isKnown_1 10 rfl rfl)
theorem dX7_isKnown_35 : decode cX7_isKnown 35 = .ok (.iload_n 1, 1) := dk_27 (dk_at dksX7_isKnown_1 13 rfl rfl)
theorem dX7_isKnown_36 : decode cX7_isKnown 36 = .ok (.iaload, 1) := dk_46 (dk_at dksX7_isKnown_1 14 rfl rfl)
theorem dX7_isKnown_37 : decode cX7_isKnown 37 = .ok (.iconst 2, 1) := dk_5 (dk_at dksX7_isKnown_1 15 rfl rfl)
theorem dX7_isKnown_38 : decode cX7_isKnown 38 = .ok (.if_icmp .eq 39, 3) := dk_159 0 39 (dk_at dksX7_isKnown_1 16 rfl rfl)
theorem dX7_isKnown_41 : decode cX7_isKnown 41 = .ok (.aload_n 0, 1) := dk_42 (dk_at dksX7_isKnown_1 19 rfl rfl)
theorem dX7_isKnown_42 : decode cX7_isKnown 42 = .ok (.iload_n 1, 1) := dk_27 (dk_at dksX7_isKnown_1 20 rfl rfl)
theorem dX7_isKnown_43 : decode cX7_isKnown 43 = .ok (.iload_n 2, 1) := dk_28 (dk_at dksX7_isKnown_1 21 rfl rfl)
theorem dX7_isKnown_44 : decode cX7_isKnown 44 = .ok (.invokevirtual 346, 3) := dk_182 1 90 (dk_at dksX7_isKnown_2 0 rfl rfl)
theorem dX7_isKnown_47 : decode cX7_isKnown 47 = .ok (.ldc_w 310, 3) := dk_19 1 54 (dk_at dksX7_isKnown_2 3 rfl rfl)
theorem dX7_isKnown_50 : decode cX7_isKnown 50 = .ok (.if_icmp .eq 27, 3) := dk_159 0 27 (dk_at dksX7_isKnown_2 6 rfl rfl)
theorem dX7_isKnown_53 : decode cX7_isKnown 53 = .ok (.aload_n 0, 1) := dk_42 (dk_at dksX7_isKnown_2 9 rfl rfl)
theorem dX7_isKnown_54 : decode cX7_isKnown 54 = .ok (.getfield 321, 3) := dk_180 1 65 (dk_at dksX7_isKnown_2 10 rfl rfl)
theorem dX7_isKnown_57 : decode cX7_isKnown 57 = .ok (.aload_n 0, 1) := dk_42 (dk_at dksX7_isKnown_2 13 rfl rfl)
theorem dX7_isKnown_58 : decode cX7_isKnown 58 = .ok (.iload_n 1, 1) := dk_27 (dk_at dksX7_isKnown_2 14 rfl rfl)
theorem dX7_isKnown_59 : decode cX7_isKnown 59 = .ok (.iload_n 2, 1) := dk_28 (dk_at dksX7_isKnown_2 15 rfl rfl)
theorem dX7_isKnown_60 : decode cX7_isKnown 60 = .ok (.invokevirtual 346, 3) := dk_182 1 90 (dk_at dksX7_isKnown_2 16 rfl rfl)
theorem dX7_isKnown_63 : decode cX7_isKnown 63 = .ok (.isub, 1) := dk_100 (dk_at dksX7_isKnown_2 19 rfl rfl)
theorem dX7_isKnown_64 : decode cX7_isKnown 64 = .ok (.aload_n 0, 1) := dk_42 (dk_at dksX7_isKnown_2 20 rfl rfl)
theorem dX7_isKnown_65 : decode cX7_isKnown 65 = .ok (.getfield 38, 3) := dk_180 0 38 (dk_at dksX7_isKnown_2 21 rfl rfl)
theorem dX7_isKnown_68 : decode cX7_isKnown 68 = .ok (.iconst 3, 1) := dk_6 (dk_at dksX7_isKnown_3 0 rfl rfl)
theorem dX7_isKnown_69 : decode cX7_isKnown 69 = .ok (.iaload, 1) := dk_46 (dk_at dksX7_isKnown_3 1 rfl rfl)
theorem dX7_isKnown_70 : decode cX7_isKnown 70 = .ok (.if_icmp .gt 7, 3) := dk_163 0 7 (dk_at dksX7_isKnown_3 2 rfl rfl)
theorem dX7_isKnown_73 : decode cX7_isKnown 73 = .ok (.iconst 1, 1) := dk_4 (dk_at dksX7_isKnown_3 5 rfl rfl)
theorem dX7_isKnown_74 : decode cX7_isKnown 74 = .ok (.goto 4, 3) := dk_167 0 4 (dk_at dksX7_isKnown_3 6 rfl rfl)
theorem dX7_isKnown_77 : decode cX7_isKnown 77 = .ok (.iconst 0, 1) := dk_3 (dk_at dksX7_isKnown_3 9 rfl rfl)
theorem dX7_isKnown_78 : decode cX7_isKnown 78 = .ok (.ireturn, 1) := dk_172 (dk_at dksX7_isKnown_3 10 rfl rfl)
abbrev cX7_twinOf : ByteArray := prog_21_method_41_code
def yX7_twinOf : MethodName := ⟨RX7, "twinOf", "(I)I"⟩
def dkwX7_twinOf_1 : List UInt8 := [162, 0, 21, 42, 180, 0, 42, 27, 4, 96, 46, 6, 160, 0, 9, 27, 4, 96, 167, 0, 4, 2, 172]
abbrev dktX7_twinOf_1 : List UInt8 := dkwX7_twinOf_1 ++ []
def dkwX7_twinOf_0 : List UInt8 := [42, 180, 0, 42, 27, 46, 6, 160, 0, 7, 27, 4, 100, 172, 27, 4, 96, 42, 180, 0, 38, 3, 46]
abbrev dktX7_twinOf_0 : List UInt8 := dkwX7_twinOf_0 ++ dktX7_twinOf_1
theorem dksX7_twinOf_0 : cX7_twinOf.data.toList.drop 0 = dktX7_twinOf_0 := by decide +kernel
theorem dksX7_twinOf_1 : cX7_twinOf.data.toList.drop 23 = dktX7_twinOf_1 := dk_seg dksX7_twinOf_0 23 rfl rfl
theorem dX7_twinOf_0 : decode cX7_twinOf 0 = .ok (.aload_n 0, 1) := dk_42 (dk_at dksX7_twinOf_0 0 rfl rfl)
theorem dX7_twinOf_1 : decode cX7_twinOf 1 = .ok (.getfield 42, 3) := dk_180 0 42 (dk_at dksX7_twinOf_0 1 rfl rfl)
theorem dX7_twinOf_4 : decode cX7_twinOf 4 = .ok (.iload_n 1, 1) := dk_27 (dk_at dksX7_twinOf_0 4 rfl rfl)
theorem dX7_twinOf_5 : decode cX7_twinOf 5 = .ok (.iaload, 1) := dk_46 (dk_at dksX7_twinOf_0 5 rfl rfl)
theorem dX7_twinOf_6 : decode cX7_twinOf 6 = .ok (.iconst 3, 1) := dk_6 (dk_at dksX7_twinOf_0 6 rfl rfl)
theorem dX7_twinOf_7 : decode cX7_twinOf 7 = .ok (.if_icmp .ne 7, 3) := dk_160 0 7 (dk_at dksX7_twinOf_0 7 rfl rfl)
theorem dX7_twinOf_10 : decode cX7_twinOf 10 = .ok (.iload_n 1, 1) := dk_27 (dk_at dksX7_twinOf_0 10 rfl rfl)
theorem dX7_twinOf_11 : decode cX7_twinOf 11 = .ok (.iconst 1, 1) := dk_4 (dk_at dksX7_twinOf_0 11 rfl rfl)
theorem dX7_twinOf_12 : decode cX7_twinOf 12 = .ok (.isub, 1) := dk_100 (dk_at dksX7_twinOf_0 12 rfl rfl)
theorem dX7_twinOf_13 : decode cX7_twinOf 13 = .ok (.ireturn, 1) := dk_172 (dk_at dksX7_twinOf_0 13 rfl rfl)
theorem dX7_twinOf_14 : decode cX7_twinOf 14 = .ok (.iload_n 1, 1) := dk_27 (dk_at dksX7_twinOf_0 14 rfl rfl)
theorem dX7_twinOf_15 : decode cX7_twinOf 15 = .ok (.iconst 1, 1) := dk_4 (dk_at dksX7_twinOf_0 15 rfl rfl)
theorem dX7_twinOf_16 : decode cX7_twinOf 16 = .ok (.iadd, 1) := dk_96 (dk_at dksX7_twinOf_0 16 rfl rfl)
theorem dX7_twinOf_17 : decode cX7_twinOf 17 = .ok (.aload_n 0, 1) := dk_42 (dk_at dksX7_twinOf_0 17 rfl rfl)
theorem dX7_twinOf_18 : decode cX7_twinOf 18 = .ok (.getfield 38, 3) := dk_180 0 38 (dk_at dksX7_twinOf_0 18 rfl rfl)
theorem dX7_twinOf_21 : decode cX7_twinOf 21 = .ok (.iconst 0, 1) := dk_3 (dk_at dksX7_twinOf_0 21 rfl rfl)
theorem dX7_twinOf_22 : decode cX7_twinOf 22 = .ok (.iaload, 1) := dk_46 (dk_at dksX7_twinOf_0 22 rfl rfl)
theorem dX7_twinOf_23 : decode cX7_twinOf 23 = .ok (.if_icmp .ge 21, 3) := dk_162 0 21 (dk_at dksX7_twinOf_1 0 rfl rfl)
theorem dX7_twinOf_26 : decode cX7_twinOf 26 = .ok (.aload_n 0, 1) := dk_42 (dk_at dksX7_twinOf_1 3 rfl rfl)
theorem dX7_twinOf_27 : decode cX7_twinOf 27 = .ok (.getfield 42, 3) := dk_180 0 42 (dk_at dksX7_twinOf_1 4 rfl rfl)
theorem dX7_twinOf_30 : decode cX7_twinOf 30 = .ok (.iload_n 1, 1) := dk_27 (dk_at dksX7_twinOf_1 7 rfl rfl)
theorem dX7_twinOf_31 : decode cX7_twinOf 31 = .ok (.iconst 1, 1) := dk_4 (dk_at dksX7_twinOf_1 8 rfl rfl)
theorem dX7_twinOf_32 : decode cX7_twinOf 32 = .ok (.iadd, 1) := dk_96 (dk_at dksX7_twinOf_1 9 rfl rfl)
theorem dX7_twinOf_33 : decode cX7_twinOf 33 = .ok (.iaload, 1) := dk_46 (dk_at dksX7_twinOf_1 10 rfl rfl)
theorem dX7_twinOf_34 : decode cX7_twinOf 34 = .ok (.iconst 3, 1) := dk_6 (dk_at dksX7_twinOf_1 11 rfl rfl)
theorem dX7_twinOf_35 : decode cX7_twinOf 35 = .ok (.if_icmp .ne 9, 3) := dk_160 0 9 (dk_at dksX7_twinOf_1 12 rfl rfl)
theorem dX7_twinOf_38 : decode cX7_twinOf 38 = .ok (.iload_n 1, 1) := dk_27 (dk_at dksX7_twinOf_1 15 rfl rfl)
theorem dX7_twinOf_39 : decode cX7_twinOf 39 = .ok (.iconst 1, 1) := dk_4 (dk_at dksX7_twinOf_1 16 rfl rfl)
theorem dX7_twinOf_40 : decode cX7_twinOf 40 = .ok (.iadd, 1) := dk_96 (dk_at dksX7_twinOf_1 17 rfl rfl)
theorem dX7_twinOf_41 : decode cX7_twinOf 41 = .ok (.goto 4, 3) := dk_167 0 4 (dk_at dksX7_twinOf_1 18 rfl rfl)
theorem dX7_twinOf_44 : decode cX7_twinOf 44 = .ok (.iconst (-1), 1) := dk_2 (dk_at dksX7_twinOf_1 21 rfl rfl)
theorem dX7_twinOf_45 : decode cX7_twinOf 45 = .ok (.ireturn, 1) := dk_172 (dk_at dksX7_twinOf_1 22 rfl rfl)
abbrev cX7_lastDay : ByteArray := prog_21_method_42_code
def yX7_lastDay : MethodName := ⟨RX7, "lastDay", "(II)I"⟩
def dkwX7_lastDay_4 : List UInt8 := [180, 0, 67, 21, 4, 21, 5, 184, 1, 26, 46, 184, 1, 29, 62, 29, 172]
abbrev dktX7_lastDay_4 : List UInt8 := dkwX7_lastDay_4 ++ []
def dkwX7_lastDay_3 : List UInt8 := [21, 5, 184, 1, 26, 46, 184, 1, 29, 62, 21, 4, 2, 159, 0, 26, 21, 5, 2, 159, 0, 20, 29, 42]
abbrev dktX7_lastDay_3 : List UInt8 := dkwX7_lastDay_3 ++ dktX7_lastDay_4
def dkwX7_lastDay_2 : List UInt8 := [21, 4, 28, 184, 1, 26, 46, 184, 1, 29, 62, 21, 5, 2, 159, 0, 19, 29, 42, 180, 0, 67, 27]
abbrev dktX7_lastDay_2 : List UInt8 := dkwX7_lastDay_2 ++ dktX7_lastDay_3
def dkwX7_lastDay_1 : List UInt8 := [54, 5, 21, 4, 28, 160, 0, 7, 19, 1, 54, 172, 21, 4, 2, 159, 0, 19, 29, 42, 180, 0, 67]
abbrev dktX7_lastDay_1 : List UInt8 := dkwX7_lastDay_1 ++ dktX7_lastDay_2
def dkwX7_lastDay_0 : List UInt8 := [42, 180, 0, 67, 27, 28, 184, 1, 26, 46, 62, 42, 27, 182, 1, 87, 54, 4, 42, 28, 182, 1, 87]
abbrev dktX7_lastDay_0 : List UInt8 := dkwX7_lastDay_0 ++ dktX7_lastDay_1
theorem dksX7_lastDay_0 : cX7_lastDay.data.toList.drop 0 = dktX7_lastDay_0 := by decide +kernel
theorem dksX7_lastDay_1 : cX7_lastDay.data.toList.drop 23 = dktX7_lastDay_1 := dk_seg dksX7_lastDay_0 23 rfl rfl
theorem dksX7_lastDay_2 : cX7_lastDay.data.toList.drop 46 = dktX7_lastDay_2 := dk_seg dksX7_lastDay_1 23 rfl rfl
theorem dksX7_lastDay_3 : cX7_lastDay.data.toList.drop 69 = dktX7_lastDay_3 := dk_seg dksX7_lastDay_2 23 rfl rfl
theorem dksX7_lastDay_4 : cX7_lastDay.data.toList.drop 93 = dktX7_lastDay_4 := dk_seg dksX7_lastDay_3 24 rfl rfl
theorem dX7_lastDay_0 : decode cX7_lastDay 0 = .ok (.aload_n 0, 1) := dk_42 (dk_at dksX7_lastDay_0 0 rfl rfl)
theorem dX7_lastDay_1 : decode cX7_lastDay 1 = .ok (.getfield 67, 3) := dk_180 0 67 (dk_at dksX7_lastDay_0 1 rfl rfl)
theorem dX7_lastDay_4 : decode cX7_lastDay 4 = .ok (.iload_n 1, 1) := dk_27 (dk_at dksX7_lastDay_0 4 rfl rfl)
theorem dX7_lastDay_5 : decode cX7_lastDay 5 = .ok (.iload_n 2, 1) := dk_28 (dk_at dksX7_lastDay_0 5 rfl rfl)
theorem dX7_lastDay_6 : decode cX7_lastDay 6 = .ok (.invokestatic 282, 3) := dk_184 1 26 (dk_at dksX7_lastDay_0 6 rfl rfl)
theorem dX7_lastDay_9 : decode cX7_lastDay 9 = .ok (.iaload, 1) := dk_46 (dk_at dksX7_lastDay_0 9 rfl rfl)
theorem dX7_lastDay_10 : decode cX7_lastDay 10 = .ok (.istore_n 3, 1) := dk_62 (dk_at dksX7_lastDay_0 10 rfl rfl)
theorem dX7_lastDay_11 : decode cX7_lastDay 11 = .ok (.aload_n 0, 1) := dk_42 (dk_at dksX7_lastDay_0 11 rfl rfl)
theorem dX7_lastDay_12 : decode cX7_lastDay 12 = .ok (.iload_n 1, 1) := dk_27 (dk_at dksX7_lastDay_0 12 rfl rfl)
theorem dX7_lastDay_13 : decode cX7_lastDay 13 = .ok (.invokevirtual 343, 3) := dk_182 1 87 (dk_at dksX7_lastDay_0 13 rfl rfl)
theorem dX7_lastDay_16 : decode cX7_lastDay 16 = .ok (.istore 4, 2) := dk_54 4 (dk_at dksX7_lastDay_0 16 rfl rfl)
theorem dX7_lastDay_18 : decode cX7_lastDay 18 = .ok (.aload_n 0, 1) := dk_42 (dk_at dksX7_lastDay_0 18 rfl rfl)
theorem dX7_lastDay_19 : decode cX7_lastDay 19 = .ok (.iload_n 2, 1) := dk_28 (dk_at dksX7_lastDay_0 19 rfl rfl)
theorem dX7_lastDay_20 : decode cX7_lastDay 20 = .ok (.invokevirtual 343, 3) := dk_182 1 87 (dk_at dksX7_lastDay_0 20 rfl rfl)
theorem dX7_lastDay_23 : decode cX7_lastDay 23 = .ok (.istore 5, 2) := dk_54 5 (dk_at dksX7_lastDay_1 0 rfl rfl)
theorem dX7_lastDay_25 : decode cX7_lastDay 25 = .ok (.iload 4, 2) := dk_21 4 (dk_at dksX7_lastDay_1 2 rfl rfl)
theorem dX7_lastDay_27 : decode cX7_lastDay 27 = .ok (.iload_n 2, 1) := dk_28 (dk_at dksX7_lastDay_1 4 rfl rfl)
theorem dX7_lastDay_28 : decode cX7_lastDay 28 = .ok (.if_icmp .ne 7, 3) := dk_160 0 7 (dk_at dksX7_lastDay_1 5 rfl rfl)
theorem dX7_lastDay_31 : decode cX7_lastDay 31 = .ok (.ldc_w 310, 3) := dk_19 1 54 (dk_at dksX7_lastDay_1 8 rfl rfl)
theorem dX7_lastDay_34 : decode cX7_lastDay 34 = .ok (.ireturn, 1) := dk_172 (dk_at dksX7_lastDay_1 11 rfl rfl)
theorem dX7_lastDay_35 : decode cX7_lastDay 35 = .ok (.iload 4, 2) := dk_21 4 (dk_at dksX7_lastDay_1 12 rfl rfl)
theorem dX7_lastDay_37 : decode cX7_lastDay 37 = .ok (.iconst (-1), 1) := dk_2 (dk_at dksX7_lastDay_1 14 rfl rfl)
theorem dX7_lastDay_38 : decode cX7_lastDay 38 = .ok (.if_icmp .eq 19, 3) := dk_159 0 19 (dk_at dksX7_lastDay_1 15 rfl rfl)
theorem dX7_lastDay_41 : decode cX7_lastDay 41 = .ok (.iload_n 3, 1) := dk_29 (dk_at dksX7_lastDay_1 18 rfl rfl)
theorem dX7_lastDay_42 : decode cX7_lastDay 42 = .ok (.aload_n 0, 1) := dk_42 (dk_at dksX7_lastDay_1 19 rfl rfl)
theorem dX7_lastDay_43 : decode cX7_lastDay 43 = .ok (.getfield 67, 3) := dk_180 0 67 (dk_at dksX7_lastDay_1 20 rfl rfl)
theorem dX7_lastDay_46 : decode cX7_lastDay 46 = .ok (.iload 4, 2) := dk_21 4 (dk_at dksX7_lastDay_2 0 rfl rfl)
theorem dX7_lastDay_48 : decode cX7_lastDay 48 = .ok (.iload_n 2, 1) := dk_28 (dk_at dksX7_lastDay_2 2 rfl rfl)
theorem dX7_lastDay_49 : decode cX7_lastDay 49 = .ok (.invokestatic 282, 3) := dk_184 1 26 (dk_at dksX7_lastDay_2 3 rfl rfl)
theorem dX7_lastDay_52 : decode cX7_lastDay 52 = .ok (.iaload, 1) := dk_46 (dk_at dksX7_lastDay_2 6 rfl rfl)
theorem dX7_lastDay_53 : decode cX7_lastDay 53 = .ok (.invokestatic 285, 3) := dk_184 1 29 (dk_at dksX7_lastDay_2 7 rfl rfl)
theorem dX7_lastDay_56 : decode cX7_lastDay 56 = .ok (.istore_n 3, 1) := dk_62 (dk_at dksX7_lastDay_2 10 rfl rfl)
theorem dX7_lastDay_57 : decode cX7_lastDay 57 = .ok (.iload 5, 2) := dk_21 5 (dk_at dksX7_lastDay_2 11 rfl rfl)
theorem dX7_lastDay_59 : decode cX7_lastDay 59 = .ok (.iconst (-1), 1) := dk_2 (dk_at dksX7_lastDay_2 13 rfl rfl)
theorem dX7_lastDay_60 : decode cX7_lastDay 60 = .ok (.if_icmp .eq 19, 3) := dk_159 0 19 (dk_at dksX7_lastDay_2 14 rfl rfl)
theorem dX7_lastDay_63 : decode cX7_lastDay 63 = .ok (.iload_n 3, 1) := dk_29 (dk_at dksX7_lastDay_2 17 rfl rfl)
theorem dX7_lastDay_64 : decode cX7_lastDay 64 = .ok (.aload_n 0, 1) := dk_42 (dk_at dksX7_lastDay_2 18 rfl rfl)
theorem dX7_lastDay_65 : decode cX7_lastDay 65 = .ok (.getfield 67, 3) := dk_180 0 67 (dk_at dksX7_lastDay_2 19 rfl rfl)
theorem dX7_lastDay_68 : decode cX7_lastDay 68 = .ok (.iload_n 1, 1) := dk_27 (dk_at dksX7_lastDay_2 22 rfl rfl)
theorem dX7_lastDay_69 : decode cX7_lastDay 69 = .ok (.iload 5, 2) := dk_21 5 (dk_at dksX7_lastDay_3 0 rfl rfl)
theorem dX7_lastDay_71 : decode cX7_lastDay 71 = .ok (.invokestatic 282, 3) := dk_184 1 26 (dk_at dksX7_lastDay_3 2 rfl rfl)
theorem dX7_lastDay_74 : decode cX7_lastDay 74 = .ok (.iaload, 1) := dk_46 (dk_at dksX7_lastDay_3 5 rfl rfl)
theorem dX7_lastDay_75 : decode cX7_lastDay 75 = .ok (.invokestatic 285, 3) := dk_184 1 29 (dk_at dksX7_lastDay_3 6 rfl rfl)
theorem dX7_lastDay_78 : decode cX7_lastDay 78 = .ok (.istore_n 3, 1) := dk_62 (dk_at dksX7_lastDay_3 9 rfl rfl)
theorem dX7_lastDay_79 : decode cX7_lastDay 79 = .ok (.iload 4, 2) := dk_21 4 (dk_at dksX7_lastDay_3 10 rfl rfl)
theorem dX7_lastDay_81 : decode cX7_lastDay 81 = .ok (.iconst (-1), 1) := dk_2 (dk_at dksX7_lastDay_3 12 rfl rfl)
theorem dX7_lastDay_82 : decode cX7_lastDay 82 = .ok (.if_icmp .eq 26, 3) := dk_159 0 26 (dk_at dksX7_lastDay_3 13 rfl rfl)
theorem dX7_lastDay_85 : decode cX7_lastDay 85 = .ok (.iload 5, 2) := dk_21 5 (dk_at dksX7_lastDay_3 16 rfl rfl)
theorem dX7_lastDay_87 : decode cX7_lastDay 87 = .ok (.iconst (-1), 1) := dk_2 (dk_at dksX7_lastDay_3 18 rfl rfl)
theorem dX7_lastDay_88 : decode cX7_lastDay 88 = .ok (.if_icmp .eq 20, 3) := dk_159 0 20 (dk_at dksX7_lastDay_3 19 rfl rfl)
theorem dX7_lastDay_91 : decode cX7_lastDay 91 = .ok (.iload_n 3, 1) := dk_29 (dk_at dksX7_lastDay_3 22 rfl rfl)
theorem dX7_lastDay_92 : decode cX7_lastDay 92 = .ok (.aload_n 0, 1) := dk_42 (dk_at dksX7_lastDay_3 23 rfl rfl)
theorem dX7_lastDay_93 : decode cX7_lastDay 93 = .ok (.getfield 67, 3) := dk_180 0 67 (dk_at dksX7_lastDay_4 0 rfl rfl)
theorem dX7_lastDay_96 : decode cX7_lastDay 96 = .ok (.iload 4, 2) := dk_21 4 (dk_at dksX7_lastDay_4 3 rfl rfl)
theorem dX7_lastDay_98 : decode cX7_lastDay 98 = .ok (.iload 5, 2) := dk_21 5 (dk_at dksX7_lastDay_4 5 rfl rfl)
theorem dX7_lastDay_100 : decode cX7_lastDay 100 = .ok (.invokestatic 282, 3) := dk_184 1 26 (dk_at dksX7_lastDay_4 7 rfl rfl)
theorem dX7_lastDay_103 : decode cX7_lastDay 103 = .ok (.iaload, 1) := dk_46 (dk_at dksX7_lastDay_4 10 rfl rfl)
theorem dX7_lastDay_104 : decode cX7_lastDay 104 = .ok (.invokestatic 285, 3) := dk_184 1 29 (dk_at dksX7_lastDay_4 11 rfl rfl)
theorem dX7_lastDay_107 : decode cX7_lastDay 107 = .ok (.istore_n 3, 1) := dk_62 (dk_at dksX7_lastDay_4 14 rfl rfl)
theorem dX7_lastDay_108 : decode cX7_lastDay 108 = .ok (.iload_n 3, 1) := dk_29 (dk_at dksX7_lastDay_4 15 rfl rfl)
theorem dX7_lastDay_109 : decode cX7_lastDay 109 = .ok (.ireturn, 1) := dk_172 (dk_at dksX7_lastDay_4 16 rfl rfl)
abbrev cX7_person : ByteArray := prog_21_method_59_code
def yX7_person : MethodName := ⟨RX7, "person", "(II)I"⟩
def dkwX7_person_5 : List UInt8 := [128, 62, 132, 4, 1, 167, 255, 219, 29, 172, 42, 4, 182, 1, 51, 172]
abbrev dktX7_person_5 : List UInt8 := dkwX7_person_5 ++ []
def dkwX7_person_4 : List UInt8 := [162, 0, 32, 21, 4, 27, 159, 0, 20, 42, 27, 21, 4, 182, 1, 93, 153, 0, 10, 29, 4, 21, 4, 120]
abbrev dktX7_person_4 : List UInt8 := dkwX7_person_4 ++ dktX7_person_5
def dkwX7_person_3 : List UInt8 := [182, 1, 87, 172, 42, 180, 0, 86, 27, 46, 172, 3, 62, 3, 54, 4, 21, 4, 42, 180, 0, 38, 3, 46]
abbrev dktX7_person_3 : List UInt8 := dkwX7_person_3 ++ dktX7_person_4
def dkwX7_person_2 : List UInt8 := [42, 180, 0, 42, 27, 46, 172, 42, 180, 0, 44, 27, 46, 172, 42, 180, 0, 47, 27, 46, 172, 42, 27]
abbrev dktX7_person_2 : List UInt8 := dkwX7_person_2 ++ dktX7_person_3
def dkwX7_person_1 : List UInt8 := [170, 0, 0, 0, 0, 0, 0, 121, 0, 0, 0, 0, 0, 0, 0, 5, 0, 0, 0, 40, 0, 0, 0, 47, 0, 0, 0, 54, 0, 0, 0, 61, 0, 0, 0, 67, 0, 0, 0, 74]
abbrev dktX7_person_1 : List UInt8 := dkwX7_person_1 ++ dktX7_person_2
def dkwX7_person_0 : List UInt8 := [42, 3, 181, 0, 159, 42, 27, 182, 1, 133, 154, 0, 9, 42, 4, 182, 1, 51, 172, 28]
abbrev dktX7_person_0 : List UInt8 := dkwX7_person_0 ++ dktX7_person_1
theorem dksX7_person_0 : cX7_person.data.toList.drop 0 = dktX7_person_0 := by decide +kernel
theorem dksX7_person_1 : cX7_person.data.toList.drop 20 = dktX7_person_1 := dk_seg dksX7_person_0 20 rfl rfl
theorem dksX7_person_2 : cX7_person.data.toList.drop 60 = dktX7_person_2 := dk_seg dksX7_person_1 40 rfl rfl
theorem dksX7_person_3 : cX7_person.data.toList.drop 83 = dktX7_person_3 := dk_seg dksX7_person_2 23 rfl rfl
theorem dksX7_person_4 : cX7_person.data.toList.drop 107 = dktX7_person_4 := dk_seg dksX7_person_3 24 rfl rfl
theorem dksX7_person_5 : cX7_person.data.toList.drop 131 = dktX7_person_5 := dk_seg dksX7_person_4 24 rfl rfl
theorem dX7_person_0 : decode cX7_person 0 = .ok (.aload_n 0, 1) := dk_42 (dk_at dksX7_person_0 0 rfl rfl)
theorem dX7_person_1 : decode cX7_person 1 = .ok (.iconst 0, 1) := dk_3 (dk_at dksX7_person_0 1 rfl rfl)
theorem dX7_person_2 : decode cX7_person 2 = .ok (.putfield 159, 3) := dk_181 0 159 (dk_at dksX7_person_0 2 rfl rfl)
theorem dX7_person_5 : decode cX7_person 5 = .ok (.aload_n 0, 1) := dk_42 (dk_at dksX7_person_0 5 rfl rfl)
theorem dX7_person_6 : decode cX7_person 6 = .ok (.iload_n 1, 1) := dk_27 (dk_at dksX7_person_0 6 rfl rfl)
theorem dX7_person_7 : decode cX7_person 7 = .ok (.invokevirtual 389, 3) := dk_182 1 133 (dk_at dksX7_person_0 7 rfl rfl)
theorem dX7_person_10 : decode cX7_person 10 = .ok (.ifCond .ne 9, 3) := dk_154 0 9 (dk_at dksX7_person_0 10 rfl rfl)
theorem dX7_person_13 : decode cX7_person 13 = .ok (.aload_n 0, 1) := dk_42 (dk_at dksX7_person_0 13 rfl rfl)
theorem dX7_person_14 : decode cX7_person 14 = .ok (.iconst 1, 1) := dk_4 (dk_at dksX7_person_0 14 rfl rfl)
theorem dX7_person_15 : decode cX7_person 15 = .ok (.invokevirtual 307, 3) := dk_182 1 51 (dk_at dksX7_person_0 15 rfl rfl)
theorem dX7_person_18 : decode cX7_person 18 = .ok (.ireturn, 1) := dk_172 (dk_at dksX7_person_0 18 rfl rfl)
theorem dX7_person_19 : decode cX7_person 19 = .ok (.iload_n 2, 1) := dk_28 (dk_at dksX7_person_0 19 rfl rfl)
theorem dX7_person_20 : decode cX7_person 20 = .ok (.tableswitch 121 0 5 #[40, 47, 54, 61, 67, 74], 40) := by decide +kernel
theorem dX7_person_60 : decode cX7_person 60 = .ok (.aload_n 0, 1) := dk_42 (dk_at dksX7_person_2 0 rfl rfl)
theorem dX7_person_61 : decode cX7_person 61 = .ok (.getfield 42, 3) := dk_180 0 42 (dk_at dksX7_person_2 1 rfl rfl)
theorem dX7_person_64 : decode cX7_person 64 = .ok (.iload_n 1, 1) := dk_27 (dk_at dksX7_person_2 4 rfl rfl)
theorem dX7_person_65 : decode cX7_person 65 = .ok (.iaload, 1) := dk_46 (dk_at dksX7_person_2 5 rfl rfl)
theorem dX7_person_66 : decode cX7_person 66 = .ok (.ireturn, 1) := dk_172 (dk_at dksX7_person_2 6 rfl rfl)
theorem dX7_person_67 : decode cX7_person 67 = .ok (.aload_n 0, 1) := dk_42 (dk_at dksX7_person_2 7 rfl rfl)
theorem dX7_person_68 : decode cX7_person 68 = .ok (.getfield 44, 3) := dk_180 0 44 (dk_at dksX7_person_2 8 rfl rfl)
theorem dX7_person_71 : decode cX7_person 71 = .ok (.iload_n 1, 1) := dk_27 (dk_at dksX7_person_2 11 rfl rfl)
theorem dX7_person_72 : decode cX7_person 72 = .ok (.iaload, 1) := dk_46 (dk_at dksX7_person_2 12 rfl rfl)
theorem dX7_person_73 : decode cX7_person 73 = .ok (.ireturn, 1) := dk_172 (dk_at dksX7_person_2 13 rfl rfl)
theorem dX7_person_74 : decode cX7_person 74 = .ok (.aload_n 0, 1) := dk_42 (dk_at dksX7_person_2 14 rfl rfl)
theorem dX7_person_75 : decode cX7_person 75 = .ok (.getfield 47, 3) := dk_180 0 47 (dk_at dksX7_person_2 15 rfl rfl)
theorem dX7_person_78 : decode cX7_person 78 = .ok (.iload_n 1, 1) := dk_27 (dk_at dksX7_person_2 18 rfl rfl)
theorem dX7_person_79 : decode cX7_person 79 = .ok (.iaload, 1) := dk_46 (dk_at dksX7_person_2 19 rfl rfl)
theorem dX7_person_80 : decode cX7_person 80 = .ok (.ireturn, 1) := dk_172 (dk_at dksX7_person_2 20 rfl rfl)
theorem dX7_person_81 : decode cX7_person 81 = .ok (.aload_n 0, 1) := dk_42 (dk_at dksX7_person_2 21 rfl rfl)
theorem dX7_person_82 : decode cX7_person 82 = .ok (.iload_n 1, 1) := dk_27 (dk_at dksX7_person_2 22 rfl rfl)
theorem dX7_person_83 : decode cX7_person 83 = .ok (.invokevirtual 343, 3) := dk_182 1 87 (dk_at dksX7_person_3 0 rfl rfl)
theorem dX7_person_86 : decode cX7_person 86 = .ok (.ireturn, 1) := dk_172 (dk_at dksX7_person_3 3 rfl rfl)
theorem dX7_person_87 : decode cX7_person 87 = .ok (.aload_n 0, 1) := dk_42 (dk_at dksX7_person_3 4 rfl rfl)
theorem dX7_person_88 : decode cX7_person 88 = .ok (.getfield 86, 3) := dk_180 0 86 (dk_at dksX7_person_3 5 rfl rfl)
theorem dX7_person_91 : decode cX7_person 91 = .ok (.iload_n 1, 1) := dk_27 (dk_at dksX7_person_3 8 rfl rfl)
theorem dX7_person_92 : decode cX7_person 92 = .ok (.iaload, 1) := dk_46 (dk_at dksX7_person_3 9 rfl rfl)
theorem dX7_person_93 : decode cX7_person 93 = .ok (.ireturn, 1) := dk_172 (dk_at dksX7_person_3 10 rfl rfl)
theorem dX7_person_94 : decode cX7_person 94 = .ok (.iconst 0, 1) := dk_3 (dk_at dksX7_person_3 11 rfl rfl)
theorem dX7_person_95 : decode cX7_person 95 = .ok (.istore_n 3, 1) := dk_62 (dk_at dksX7_person_3 12 rfl rfl)
theorem dX7_person_96 : decode cX7_person 96 = .ok (.iconst 0, 1) := dk_3 (dk_at dksX7_person_3 13 rfl rfl)
theorem dX7_person_97 : decode cX7_person 97 = .ok (.istore 4, 2) := dk_54 4 (dk_at dksX7_person_3 14 rfl rfl)
theorem dX7_person_99 : decode cX7_person 99 = .ok (.iload 4, 2) := dk_21 4 (dk_at dksX7_person_3 16 rfl rfl)
theorem dX7_person_101 : decode cX7_person 101 = .ok (.aload_n 0, 1) := dk_42 (dk_at dksX7_person_3 18 rfl rfl)
theorem dX7_person_102 : decode cX7_person 102 = .ok (.getfield 38, 3) := dk_180 0 38 (dk_at dksX7_person_3 19 rfl rfl)
theorem dX7_person_105 : decode cX7_person 105 = .ok (.iconst 0, 1) := dk_3 (dk_at dksX7_person_3 22 rfl rfl)
theorem dX7_person_106 : decode cX7_person 106 = .ok (.iaload, 1) := dk_46 (dk_at dksX7_person_3 23 rfl rfl)
theorem dX7_person_107 : decode cX7_person 107 = .ok (.if_icmp .ge 32, 3) := dk_162 0 32 (dk_at dksX7_person_4 0 rfl rfl)
theorem dX7_person_110 : decode cX7_person 110 = .ok (.iload 4, 2) := dk_21 4 (dk_at dksX7_person_4 3 rfl rfl)
theorem dX7_person_112 : decode cX7_person 112 = .ok (.iload_n 1, 1) := dk_27 (dk_at dksX7_person_4 5 rfl rfl)
theorem dX7_person_113 : decode cX7_person 113 = .ok (.if_icmp .eq 20, 3) := dk_159 0 20 (dk_at dksX7_person_4 6 rfl rfl)
theorem dX7_person_116 : decode cX7_person 116 = .ok (.aload_n 0, 1) := dk_42 (dk_at dksX7_person_4 9 rfl rfl)
theorem dX7_person_117 : decode cX7_person 117 = .ok (.iload_n 1, 1) := dk_27 (dk_at dksX7_person_4 10 rfl rfl)
theorem dX7_person_118 : decode cX7_person 118 = .ok (.iload 4, 2) := dk_21 4 (dk_at dksX7_person_4 11 rfl rfl)
theorem dX7_person_120 : decode cX7_person 120 = .ok (.invokevirtual 349, 3) := dk_182 1 93 (dk_at dksX7_person_4 13 rfl rfl)
theorem dX7_person_123 : decode cX7_person 123 = .ok (.ifCond .eq 10, 3) := dk_153 0 10 (dk_at dksX7_person_4 16 rfl rfl)
theorem dX7_person_126 : decode cX7_person 126 = .ok (.iload_n 3, 1) := dk_29 (dk_at dksX7_person_4 19 rfl rfl)
theorem dX7_person_127 : decode cX7_person 127 = .ok (.iconst 1, 1) := dk_4 (dk_at dksX7_person_4 20 rfl rfl)
theorem dX7_person_128 : decode cX7_person 128 = .ok (.iload 4, 2) := dk_21 4 (dk_at dksX7_person_4 21 rfl rfl)
theorem dX7_person_130 : decode cX7_person 130 = .ok (.ishl, 1) := dk_120 (dk_at dksX7_person_4 23 rfl rfl)
theorem dX7_person_131 : decode cX7_person 131 = .ok (.ior, 1) := dk_128 (dk_at dksX7_person_5 0 rfl rfl)
theorem dX7_person_132 : decode cX7_person 132 = .ok (.istore_n 3, 1) := dk_62 (dk_at dksX7_person_5 1 rfl rfl)
theorem dX7_person_133 : decode cX7_person 133 = .ok (.iinc 4 1, 3) := dk_132 4 1 (dk_at dksX7_person_5 2 rfl rfl)
theorem dX7_person_136 : decode cX7_person 136 = .ok (.goto (-37), 3) := dk_167 255 219 (dk_at dksX7_person_5 5 rfl rfl)
theorem dX7_person_139 : decode cX7_person 139 = .ok (.iload_n 3, 1) := dk_29 (dk_at dksX7_person_5 8 rfl rfl)
theorem dX7_person_140 : decode cX7_person 140 = .ok (.ireturn, 1) := dk_172 (dk_at dksX7_person_5 9 rfl rfl)
theorem dX7_person_141 : decode cX7_person 141 = .ok (.aload_n 0, 1) := dk_42 (dk_at dksX7_person_5 10 rfl rfl)
theorem dX7_person_142 : decode cX7_person 142 = .ok (.iconst 1, 1) := dk_4 (dk_at dksX7_person_5 11 rfl rfl)
theorem dX7_person_143 : decode cX7_person 143 = .ok (.invokevirtual 307, 3) := dk_182 1 51 (dk_at dksX7_person_5 12 rfl rfl)
theorem dX7_person_146 : decode cX7_person 146 = .ok (.ireturn, 1) := dk_172 (dk_at dksX7_person_5 15 rfl rfl)
abbrev cX7_isPerson : ByteArray := prog_21_method_7_code
def yX7_isPerson : MethodName := ⟨RX7, "isPerson", "(I)Z"⟩
def dkwX7_isPerson_0 : List UInt8 := [27, 133, 9, 42, 180, 0, 38, 3, 46, 4, 100, 133, 184, 0, 162, 172]
abbrev dktX7_isPerson_0 : List UInt8 := dkwX7_isPerson_0 ++ []
theorem dksX7_isPerson_0 : cX7_isPerson.data.toList.drop 0 = dktX7_isPerson_0 := by decide +kernel
theorem dX7_isPerson_0 : decode cX7_isPerson 0 = .ok (.iload_n 1, 1) := dk_27 (dk_at dksX7_isPerson_0 0 rfl rfl)
theorem dX7_isPerson_1 : decode cX7_isPerson 1 = .ok (.i2l, 1) := dk_133 (dk_at dksX7_isPerson_0 1 rfl rfl)
theorem dX7_isPerson_2 : decode cX7_isPerson 2 = .ok (.lconst 0, 1) := dk_9 (dk_at dksX7_isPerson_0 2 rfl rfl)
theorem dX7_isPerson_3 : decode cX7_isPerson 3 = .ok (.aload_n 0, 1) := dk_42 (dk_at dksX7_isPerson_0 3 rfl rfl)
theorem dX7_isPerson_4 : decode cX7_isPerson 4 = .ok (.getfield 38, 3) := dk_180 0 38 (dk_at dksX7_isPerson_0 4 rfl rfl)
theorem dX7_isPerson_7 : decode cX7_isPerson 7 = .ok (.iconst 0, 1) := dk_3 (dk_at dksX7_isPerson_0 7 rfl rfl)
theorem dX7_isPerson_8 : decode cX7_isPerson 8 = .ok (.iaload, 1) := dk_46 (dk_at dksX7_isPerson_0 8 rfl rfl)
theorem dX7_isPerson_9 : decode cX7_isPerson 9 = .ok (.iconst 1, 1) := dk_4 (dk_at dksX7_isPerson_0 9 rfl rfl)
theorem dX7_isPerson_10 : decode cX7_isPerson 10 = .ok (.isub, 1) := dk_100 (dk_at dksX7_isPerson_0 10 rfl rfl)
theorem dX7_isPerson_11 : decode cX7_isPerson 11 = .ok (.i2l, 1) := dk_133 (dk_at dksX7_isPerson_0 11 rfl rfl)
theorem dX7_isPerson_12 : decode cX7_isPerson 12 = .ok (.invokestatic 162, 3) := dk_184 0 162 (dk_at dksX7_isPerson_0 12 rfl rfl)
theorem dX7_isPerson_15 : decode cX7_isPerson 15 = .ok (.ireturn, 1) := dk_172 (dk_at dksX7_isPerson_0 15 rfl rfl)
abbrev cX7_isIn : ByteArray := prog_21_method_5_code
def yX7_isIn : MethodName := ⟨RX7, "isIn", "(JJJ)Z"⟩
def dkwX7_isIn_0 : List UInt8 := [30, 32, 148, 155, 0, 14, 30, 22, 4, 148, 157, 0, 7, 4, 167, 0, 4, 3, 172]
abbrev dktX7_isIn_0 : List UInt8 := dkwX7_isIn_0 ++ []
theorem dksX7_isIn_0 : cX7_isIn.data.toList.drop 0 = dktX7_isIn_0 := by decide +kernel
theorem dX7_isIn_0 : decode cX7_isIn 0 = .ok (.lload_n 0, 1) := dk_30 (dk_at dksX7_isIn_0 0 rfl rfl)
theorem dX7_isIn_1 : decode cX7_isIn 1 = .ok (.lload_n 2, 1) := dk_32 (dk_at dksX7_isIn_0 1 rfl rfl)
theorem dX7_isIn_2 : decode cX7_isIn 2 = .ok (.lcmp, 1) := dk_148 (dk_at dksX7_isIn_0 2 rfl rfl)
theorem dX7_isIn_3 : decode cX7_isIn 3 = .ok (.ifCond .lt 14, 3) := dk_155 0 14 (dk_at dksX7_isIn_0 3 rfl rfl)
theorem dX7_isIn_6 : decode cX7_isIn 6 = .ok (.lload_n 0, 1) := dk_30 (dk_at dksX7_isIn_0 6 rfl rfl)
theorem dX7_isIn_7 : decode cX7_isIn 7 = .ok (.lload 4, 2) := dk_22 4 (dk_at dksX7_isIn_0 7 rfl rfl)
theorem dX7_isIn_9 : decode cX7_isIn 9 = .ok (.lcmp, 1) := dk_148 (dk_at dksX7_isIn_0 9 rfl rfl)
theorem dX7_isIn_10 : decode cX7_isIn 10 = .ok (.ifCond .gt 7, 3) := dk_157 0 7 (dk_at dksX7_isIn_0 10 rfl rfl)
theorem dX7_isIn_13 : decode cX7_isIn 13 = .ok (.iconst 1, 1) := dk_4 (dk_at dksX7_isIn_0 13 rfl rfl)
theorem dX7_isIn_14 : decode cX7_isIn 14 = .ok (.goto 4, 3) := dk_167 0 4 (dk_at dksX7_isIn_0 14 rfl rfl)
theorem dX7_isIn_17 : decode cX7_isIn 17 = .ok (.iconst 0, 1) := dk_3 (dk_at dksX7_isIn_0 17 rfl rfl)
theorem dX7_isIn_18 : decode cX7_isIn 18 = .ok (.ireturn, 1) := dk_172 (dk_at dksX7_isIn_0 18 rfl rfl)
abbrev cX7_loaf : ByteArray := prog_21_method_60_code
def yX7_loaf : MethodName := ⟨RX7, "loaf", "(II)I"⟩
def dkwX7_loaf_4 : List UInt8 := [180, 0, 83, 27, 46, 172, 42, 27, 3, 182, 1, 139, 172, 42, 4, 182, 1, 51, 172]
abbrev dktX7_loaf_4 : List UInt8 := dkwX7_loaf_4 ++ []
def dkwX7_loaf_3 : List UInt8 := [180, 0, 58, 27, 46, 172, 42, 27, 182, 1, 96, 172, 42, 27, 182, 1, 121, 42, 180, 1, 115, 172, 42]
abbrev dktX7_loaf_3 : List UInt8 := dkwX7_loaf_3 ++ dktX7_loaf_4
def dkwX7_loaf_2 : List UInt8 := [42, 180, 0, 49, 27, 46, 172, 42, 180, 0, 52, 27, 46, 172, 42, 180, 0, 55, 27, 46, 172, 42]
abbrev dktX7_loaf_2 : List UInt8 := dkwX7_loaf_2 ++ dktX7_loaf_3
def dkwX7_loaf_1 : List UInt8 := [170, 0, 0, 0, 0, 0, 0, 106, 0, 0, 0, 0, 0, 0, 0, 7, 0, 0, 0, 48, 0, 0, 0, 55, 0, 0, 0, 62, 0, 0, 0, 69, 0, 0, 0, 76, 0, 0, 0, 82, 0, 0, 0, 92, 0, 0, 0, 99]
abbrev dktX7_loaf_1 : List UInt8 := dkwX7_loaf_1 ++ dktX7_loaf_2
def dkwX7_loaf_0 : List UInt8 := [42, 3, 181, 0, 159, 42, 27, 182, 1, 136, 154, 0, 9, 42, 4, 182, 1, 51, 172, 28]
abbrev dktX7_loaf_0 : List UInt8 := dkwX7_loaf_0 ++ dktX7_loaf_1
theorem dksX7_loaf_0 : cX7_loaf.data.toList.drop 0 = dktX7_loaf_0 := by decide +kernel
theorem dksX7_loaf_1 : cX7_loaf.data.toList.drop 20 = dktX7_loaf_1 := dk_seg dksX7_loaf_0 20 rfl rfl
theorem dksX7_loaf_2 : cX7_loaf.data.toList.drop 68 = dktX7_loaf_2 := dk_seg dksX7_loaf_1 48 rfl rfl
theorem dksX7_loaf_3 : cX7_loaf.data.toList.drop 90 = dktX7_loaf_3 := dk_seg dksX7_loaf_2 22 rfl rfl
theorem dksX7_loaf_4 : cX7_loaf.data.toList.drop 113 = dktX7_loaf_4 := dk_seg dksX7_loaf_3 23 rfl rfl
theorem dX7_loaf_0 : decode cX7_loaf 0 = .ok (.aload_n 0, 1) := dk_42 (dk_at dksX7_loaf_0 0 rfl rfl)
theorem dX7_loaf_1 : decode cX7_loaf 1 = .ok (.iconst 0, 1) := dk_3 (dk_at dksX7_loaf_0 1 rfl rfl)
theorem dX7_loaf_2 : decode cX7_loaf 2 = .ok (.putfield 159, 3) := dk_181 0 159 (dk_at dksX7_loaf_0 2 rfl rfl)
theorem dX7_loaf_5 : decode cX7_loaf 5 = .ok (.aload_n 0, 1) := dk_42 (dk_at dksX7_loaf_0 5 rfl rfl)
theorem dX7_loaf_6 : decode cX7_loaf 6 = .ok (.iload_n 1, 1) := dk_27 (dk_at dksX7_loaf_0 6 rfl rfl)
theorem dX7_loaf_7 : decode cX7_loaf 7 = .ok (.invokevirtual 392, 3) := dk_182 1 136 (dk_at dksX7_loaf_0 7 rfl rfl)
theorem dX7_loaf_10 : decode cX7_loaf 10 = .ok (.ifCond .ne 9, 3) := dk_154 0 9 (dk_at dksX7_loaf_0 10 rfl rfl)
theorem dX7_loaf_13 : decode cX7_loaf 13 = .ok (.aload_n 0, 1) := dk_42 (dk_at dksX7_loaf_0 13 rfl rfl)
theorem dX7_loaf_14 : decode cX7_loaf 14 = .ok (.iconst 1, 1) := dk_4 (dk_at dksX7_loaf_0 14 rfl rfl)
theorem dX7_loaf_15 : decode cX7_loaf 15 = .ok (.invokevirtual 307, 3) := dk_182 1 51 (dk_at dksX7_loaf_0 15 rfl rfl)
theorem dX7_loaf_18 : decode cX7_loaf 18 = .ok (.ireturn, 1) := dk_172 (dk_at dksX7_loaf_0 18 rfl rfl)
theorem dX7_loaf_19 : decode cX7_loaf 19 = .ok (.iload_n 2, 1) := dk_28 (dk_at dksX7_loaf_0 19 rfl rfl)
theorem dX7_loaf_20 : decode cX7_loaf 20 = .ok (.tableswitch 106 0 7 #[48, 55, 62, 69, 76, 82, 92, 99], 48) := by decide +kernel
theorem dX7_loaf_68 : decode cX7_loaf 68 = .ok (.aload_n 0, 1) := dk_42 (dk_at dksX7_loaf_2 0 rfl rfl)
theorem dX7_loaf_69 : decode cX7_loaf 69 = .ok (.getfield 49, 3) := dk_180 0 49 (dk_at dksX7_loaf_2 1 rfl rfl)
theorem dX7_loaf_72 : decode cX7_loaf 72 = .ok (.iload_n 1, 1) := dk_27 (dk_at dksX7_loaf_2 4 rfl rfl)
theorem dX7_loaf_73 : decode cX7_loaf 73 = .ok (.iaload, 1) := dk_46 (dk_at dksX7_loaf_2 5 rfl rfl)
theorem dX7_loaf_74 : decode cX7_loaf 74 = .ok (.ireturn, 1) := dk_172 (dk_at dksX7_loaf_2 6 rfl rfl)
theorem dX7_loaf_75 : decode cX7_loaf 75 = .ok (.aload_n 0, 1) := dk_42 (dk_at dksX7_loaf_2 7 rfl rfl)
theorem dX7_loaf_76 : decode cX7_loaf 76 = .ok (.getfield 52, 3) := dk_180 0 52 (dk_at dksX7_loaf_2 8 rfl rfl)
theorem dX7_loaf_79 : decode cX7_loaf 79 = .ok (.iload_n 1, 1) := dk_27 (dk_at dksX7_loaf_2 11 rfl rfl)
theorem dX7_loaf_80 : decode cX7_loaf 80 = .ok (.iaload, 1) := dk_46 (dk_at dksX7_loaf_2 12 rfl rfl)
theorem dX7_loaf_81 : decode cX7_loaf 81 = .ok (.ireturn, 1) := dk_172 (dk_at dksX7_loaf_2 13 rfl rfl)
theorem dX7_loaf_82 : decode cX7_loaf 82 = .ok (.aload_n 0, 1) := dk_42 (dk_at dksX7_loaf_2 14 rfl rfl)
theorem dX7_loaf_83 : decode cX7_loaf 83 = .ok (.getfield 55, 3) := dk_180 0 55 (dk_at dksX7_loaf_2 15 rfl rfl)
theorem dX7_loaf_86 : decode cX7_loaf 86 = .ok (.iload_n 1, 1) := dk_27 (dk_at dksX7_loaf_2 18 rfl rfl)
theorem dX7_loaf_87 : decode cX7_loaf 87 = .ok (.iaload, 1) := dk_46 (dk_at dksX7_loaf_2 19 rfl rfl)
theorem dX7_loaf_88 : decode cX7_loaf 88 = .ok (.ireturn, 1) := dk_172 (dk_at dksX7_loaf_2 20 rfl rfl)
theorem dX7_loaf_89 : decode cX7_loaf 89 = .ok (.aload_n 0, 1) := dk_42 (dk_at dksX7_loaf_2 21 rfl rfl)
theorem dX7_loaf_90 : decode cX7_loaf 90 = .ok (.getfield 58, 3) := dk_180 0 58 (dk_at dksX7_loaf_3 0 rfl rfl)
theorem dX7_loaf_93 : decode cX7_loaf 93 = .ok (.iload_n 1, 1) := dk_27 (dk_at dksX7_loaf_3 3 rfl rfl)
theorem dX7_loaf_94 : decode cX7_loaf 94 = .ok (.iaload, 1) := dk_46 (dk_at dksX7_loaf_3 4 rfl rfl)
theorem dX7_loaf_95 : decode cX7_loaf 95 = .ok (.ireturn, 1) := dk_172 (dk_at dksX7_loaf_3 5 rfl rfl)
theorem dX7_loaf_96 : decode cX7_loaf 96 = .ok (.aload_n 0, 1) := dk_42 (dk_at dksX7_loaf_3 6 rfl rfl)
theorem dX7_loaf_97 : decode cX7_loaf 97 = .ok (.iload_n 1, 1) := dk_27 (dk_at dksX7_loaf_3 7 rfl rfl)
theorem dX7_loaf_98 : decode cX7_loaf 98 = .ok (.invokevirtual 352, 3) := dk_182 1 96 (dk_at dksX7_loaf_3 8 rfl rfl)
theorem dX7_loaf_101 : decode cX7_loaf 101 = .ok (.ireturn, 1) := dk_172 (dk_at dksX7_loaf_3 11 rfl rfl)
theorem dX7_loaf_102 : decode cX7_loaf 102 = .ok (.aload_n 0, 1) := dk_42 (dk_at dksX7_loaf_3 12 rfl rfl)
theorem dX7_loaf_103 : decode cX7_loaf 103 = .ok (.iload_n 1, 1) := dk_27 (dk_at dksX7_loaf_3 13 rfl rfl)
theorem dX7_loaf_104 : decode cX7_loaf 104 = .ok (.invokevirtual 377, 3) := dk_182 1 121 (dk_at dksX7_loaf_3 14 rfl rfl)
theorem dX7_loaf_107 : decode cX7_loaf 107 = .ok (.aload_n 0, 1) := dk_42 (dk_at dksX7_loaf_3 17 rfl rfl)
theorem dX7_loaf_108 : decode cX7_loaf 108 = .ok (.getfield 371, 3) := dk_180 1 115 (dk_at dksX7_loaf_3 18 rfl rfl)
theorem dX7_loaf_111 : decode cX7_loaf 111 = .ok (.ireturn, 1) := dk_172 (dk_at dksX7_loaf_3 21 rfl rfl)
theorem dX7_loaf_112 : decode cX7_loaf 112 = .ok (.aload_n 0, 1) := dk_42 (dk_at dksX7_loaf_3 22 rfl rfl)
theorem dX7_loaf_113 : decode cX7_loaf 113 = .ok (.getfield 83, 3) := dk_180 0 83 (dk_at dksX7_loaf_4 0 rfl rfl)
theorem dX7_loaf_116 : decode cX7_loaf 116 = .ok (.iload_n 1, 1) := dk_27 (dk_at dksX7_loaf_4 3 rfl rfl)
theorem dX7_loaf_117 : decode cX7_loaf 117 = .ok (.iaload, 1) := dk_46 (dk_at dksX7_loaf_4 4 rfl rfl)
theorem dX7_loaf_118 : decode cX7_loaf 118 = .ok (.ireturn, 1) := dk_172 (dk_at dksX7_loaf_4 5 rfl rfl)
theorem dX7_loaf_119 : decode cX7_loaf 119 = .ok (.aload_n 0, 1) := dk_42 (dk_at dksX7_loaf_4 6 rfl rfl)
theorem dX7_loaf_120 : decode cX7_loaf 120 = .ok (.iload_n 1, 1) := dk_27 (dk_at dksX7_loaf_4 7 rfl rfl)
theorem dX7_loaf_121 : decode cX7_loaf 121 = .ok (.iconst 0, 1) := dk_3 (dk_at dksX7_loaf_4 8 rfl rfl)
theorem dX7_loaf_122 : decode cX7_loaf 122 = .ok (.invokevirtual 395, 3) := dk_182 1 139 (dk_at dksX7_loaf_4 9 rfl rfl)
theorem dX7_loaf_125 : decode cX7_loaf 125 = .ok (.ireturn, 1) := dk_172 (dk_at dksX7_loaf_4 12 rfl rfl)
theorem dX7_loaf_126 : decode cX7_loaf 126 = .ok (.aload_n 0, 1) := dk_42 (dk_at dksX7_loaf_4 13 rfl rfl)
theorem dX7_loaf_127 : decode cX7_loaf 127 = .ok (.iconst 1, 1) := dk_4 (dk_at dksX7_loaf_4 14 rfl rfl)
theorem dX7_loaf_128 : decode cX7_loaf 128 = .ok (.invokevirtual 307, 3) := dk_182 1 51 (dk_at dksX7_loaf_4 15 rfl rfl)
theorem dX7_loaf_131 : decode cX7_loaf 131 = .ok (.ireturn, 1) := dk_172 (dk_at dksX7_loaf_4 18 rfl rfl)
abbrev cX7_isLoaf : ByteArray := prog_21_method_8_code
def yX7_isLoaf : MethodName := ⟨RX7, "isLoaf", "(I)Z"⟩
def dkwX7_isLoaf_0 : List UInt8 := [27, 133, 9, 42, 180, 0, 38, 4, 46, 4, 100, 133, 184, 0, 162, 172]
abbrev dktX7_isLoaf_0 : List UInt8 := dkwX7_isLoaf_0 ++ []
theorem dksX7_isLoaf_0 : cX7_isLoaf.data.toList.drop 0 = dktX7_isLoaf_0 := by decide +kernel
theorem dX7_isLoaf_0 : decode cX7_isLoaf 0 = .ok (.iload_n 1, 1) := dk_27 (dk_at dksX7_isLoaf_0 0 rfl rfl)
theorem dX7_isLoaf_1 : decode cX7_isLoaf 1 = .ok (.i2l, 1) := dk_133 (dk_at dksX7_isLoaf_0 1 rfl rfl)
theorem dX7_isLoaf_2 : decode cX7_isLoaf 2 = .ok (.lconst 0, 1) := dk_9 (dk_at dksX7_isLoaf_0 2 rfl rfl)
theorem dX7_isLoaf_3 : decode cX7_isLoaf 3 = .ok (.aload_n 0, 1) := dk_42 (dk_at dksX7_isLoaf_0 3 rfl rfl)
theorem dX7_isLoaf_4 : decode cX7_isLoaf 4 = .ok (.getfield 38, 3) := dk_180 0 38 (dk_at dksX7_isLoaf_0 4 rfl rfl)
theorem dX7_isLoaf_7 : decode cX7_isLoaf 7 = .ok (.iconst 1, 1) := dk_4 (dk_at dksX7_isLoaf_0 7 rfl rfl)
theorem dX7_isLoaf_8 : decode cX7_isLoaf 8 = .ok (.iaload, 1) := dk_46 (dk_at dksX7_isLoaf_0 8 rfl rfl)
theorem dX7_isLoaf_9 : decode cX7_isLoaf 9 = .ok (.iconst 1, 1) := dk_4 (dk_at dksX7_isLoaf_0 9 rfl rfl)
theorem dX7_isLoaf_10 : decode cX7_isLoaf 10 = .ok (.isub, 1) := dk_100 (dk_at dksX7_isLoaf_0 10 rfl rfl)
theorem dX7_isLoaf_11 : decode cX7_isLoaf 11 = .ok (.i2l, 1) := dk_133 (dk_at dksX7_isLoaf_0 11 rfl rfl)
theorem dX7_isLoaf_12 : decode cX7_isLoaf 12 = .ok (.invokestatic 162, 3) := dk_184 0 162 (dk_at dksX7_isLoaf_0 12 rfl rfl)
theorem dX7_isLoaf_15 : decode cX7_isLoaf 15 = .ok (.ireturn, 1) := dk_172 (dk_at dksX7_isLoaf_0 15 rfl rfl)
abbrev cX7_eatersOf : ByteArray := prog_21_method_46_code
def yX7_eatersOf : MethodName := ⟨RX7, "eatersOf", "(I)I"⟩
def dkwX7_eatersOf_1 : List UInt8 := [29, 96, 46, 120, 128, 61, 132, 3, 1, 167, 255, 227, 28, 172]
abbrev dktX7_eatersOf_1 : List UInt8 := dkwX7_eatersOf_1 ++ []
def dkwX7_eatersOf_0 : List UInt8 := [3, 61, 3, 62, 29, 42, 180, 0, 61, 27, 46, 162, 0, 25, 28, 4, 42, 180, 0, 64, 16, 6, 27, 104]
abbrev dktX7_eatersOf_0 : List UInt8 := dkwX7_eatersOf_0 ++ dktX7_eatersOf_1
theorem dksX7_eatersOf_0 : cX7_eatersOf.data.toList.drop 0 = dktX7_eatersOf_0 := by decide +kernel
theorem dksX7_eatersOf_1 : cX7_eatersOf.data.toList.drop 24 = dktX7_eatersOf_1 := dk_seg dksX7_eatersOf_0 24 rfl rfl
theorem dX7_eatersOf_0 : decode cX7_eatersOf 0 = .ok (.iconst 0, 1) := dk_3 (dk_at dksX7_eatersOf_0 0 rfl rfl)
theorem dX7_eatersOf_1 : decode cX7_eatersOf 1 = .ok (.istore_n 2, 1) := dk_61 (dk_at dksX7_eatersOf_0 1 rfl rfl)
theorem dX7_eatersOf_2 : decode cX7_eatersOf 2 = .ok (.iconst 0, 1) := dk_3 (dk_at dksX7_eatersOf_0 2 rfl rfl)
theorem dX7_eatersOf_3 : decode cX7_eatersOf 3 = .ok (.istore_n 3, 1) := dk_62 (dk_at dksX7_eatersOf_0 3 rfl rfl)
theorem dX7_eatersOf_4 : decode cX7_eatersOf 4 = .ok (.iload_n 3, 1) := dk_29 (dk_at dksX7_eatersOf_0 4 rfl rfl)
theorem dX7_eatersOf_5 : decode cX7_eatersOf 5 = .ok (.aload_n 0, 1) := dk_42 (dk_at dksX7_eatersOf_0 5 rfl rfl)
theorem dX7_eatersOf_6 : decode cX7_eatersOf 6 = .ok (.getfield 61, 3) := dk_180 0 61 (dk_at dksX7_eatersOf_0 6 rfl rfl)
theorem dX7_eatersOf_9 : decode cX7_eatersOf 9 = .ok (.iload_n 1, 1) := dk_27 (dk_at dksX7_eatersOf_0 9 rfl rfl)
theorem dX7_eatersOf_10 : decode cX7_eatersOf 10 = .ok (.iaload, 1) := dk_46 (dk_at dksX7_eatersOf_0 10 rfl rfl)
theorem dX7_eatersOf_11 : decode cX7_eatersOf 11 = .ok (.if_icmp .ge 25, 3) := dk_162 0 25 (dk_at dksX7_eatersOf_0 11 rfl rfl)
theorem dX7_eatersOf_14 : decode cX7_eatersOf 14 = .ok (.iload_n 2, 1) := dk_28 (dk_at dksX7_eatersOf_0 14 rfl rfl)
theorem dX7_eatersOf_15 : decode cX7_eatersOf 15 = .ok (.iconst 1, 1) := dk_4 (dk_at dksX7_eatersOf_0 15 rfl rfl)
theorem dX7_eatersOf_16 : decode cX7_eatersOf 16 = .ok (.aload_n 0, 1) := dk_42 (dk_at dksX7_eatersOf_0 16 rfl rfl)
theorem dX7_eatersOf_17 : decode cX7_eatersOf 17 = .ok (.getfield 64, 3) := dk_180 0 64 (dk_at dksX7_eatersOf_0 17 rfl rfl)
theorem dX7_eatersOf_20 : decode cX7_eatersOf 20 = .ok (.bipush 6, 2) := dk_16 6 (dk_at dksX7_eatersOf_0 20 rfl rfl)
theorem dX7_eatersOf_22 : decode cX7_eatersOf 22 = .ok (.iload_n 1, 1) := dk_27 (dk_at dksX7_eatersOf_0 22 rfl rfl)
theorem dX7_eatersOf_23 : decode cX7_eatersOf 23 = .ok (.imul, 1) := dk_104 (dk_at dksX7_eatersOf_0 23 rfl rfl)
theorem dX7_eatersOf_24 : decode cX7_eatersOf 24 = .ok (.iload_n 3, 1) := dk_29 (dk_at dksX7_eatersOf_1 0 rfl rfl)
theorem dX7_eatersOf_25 : decode cX7_eatersOf 25 = .ok (.iadd, 1) := dk_96 (dk_at dksX7_eatersOf_1 1 rfl rfl)
theorem dX7_eatersOf_26 : decode cX7_eatersOf 26 = .ok (.iaload, 1) := dk_46 (dk_at dksX7_eatersOf_1 2 rfl rfl)
theorem dX7_eatersOf_27 : decode cX7_eatersOf 27 = .ok (.ishl, 1) := dk_120 (dk_at dksX7_eatersOf_1 3 rfl rfl)
theorem dX7_eatersOf_28 : decode cX7_eatersOf 28 = .ok (.ior, 1) := dk_128 (dk_at dksX7_eatersOf_1 4 rfl rfl)
theorem dX7_eatersOf_29 : decode cX7_eatersOf 29 = .ok (.istore_n 2, 1) := dk_61 (dk_at dksX7_eatersOf_1 5 rfl rfl)
theorem dX7_eatersOf_30 : decode cX7_eatersOf 30 = .ok (.iinc 3 1, 3) := dk_132 3 1 (dk_at dksX7_eatersOf_1 6 rfl rfl)
theorem dX7_eatersOf_33 : decode cX7_eatersOf 33 = .ok (.goto (-29), 3) := dk_167 255 227 (dk_at dksX7_eatersOf_1 9 rfl rfl)
theorem dX7_eatersOf_36 : decode cX7_eatersOf 36 = .ok (.iload_n 2, 1) := dk_28 (dk_at dksX7_eatersOf_1 12 rfl rfl)
theorem dX7_eatersOf_37 : decode cX7_eatersOf 37 = .ok (.ireturn, 1) := dk_172 (dk_at dksX7_eatersOf_1 13 rfl rfl)
abbrev cX7_tellUnits : ByteArray := prog_21_method_55_code
def yX7_tellUnits : MethodName := ⟨RX7, "tellUnits", "(I)V"⟩
def dkwX7_tellUnits_4 : List UInt8 := [180, 1, 115, 4, 96, 181, 1, 115, 132, 2, 1, 167, 255, 158, 177]
abbrev dktX7_tellUnits_4 : List UInt8 := dkwX7_tellUnits_4 ++ []
def dkwX7_tellUnits_3 : List UInt8 := [184, 1, 29, 79, 132, 3, 1, 167, 255, 203, 42, 180, 0, 99, 28, 46, 28, 160, 0, 13, 42, 89]
abbrev dktX7_tellUnits_3 : List UInt8 := dkwX7_tellUnits_3 ++ dktX7_tellUnits_4
def dkwX7_tellUnits_2 : List UInt8 := [182, 1, 87, 42, 180, 0, 64, 16, 6, 27, 104, 29, 96, 46, 160, 0, 14, 42, 180, 0, 99, 28, 28, 29]
abbrev dktX7_tellUnits_2 : List UInt8 := dkwX7_tellUnits_2 ++ dktX7_tellUnits_3
def dkwX7_tellUnits_1 : List UInt8 := [3, 62, 29, 42, 180, 0, 61, 27, 46, 162, 0, 49, 42, 42, 180, 0, 64, 16, 6, 27, 104, 28, 96, 46]
abbrev dktX7_tellUnits_1 : List UInt8 := dkwX7_tellUnits_1 ++ dktX7_tellUnits_2
def dkwX7_tellUnits_0 : List UInt8 := [42, 3, 181, 1, 115, 3, 61, 28, 42, 180, 0, 61, 27, 46, 162, 0, 94, 42, 180, 0, 99, 28, 28, 79]
abbrev dktX7_tellUnits_0 : List UInt8 := dkwX7_tellUnits_0 ++ dktX7_tellUnits_1
theorem dksX7_tellUnits_0 : cX7_tellUnits.data.toList.drop 0 = dktX7_tellUnits_0 := by decide +kernel
theorem dksX7_tellUnits_1 : cX7_tellUnits.data.toList.drop 24 = dktX7_tellUnits_1 := dk_seg dksX7_tellUnits_0 24 rfl rfl
theorem dksX7_tellUnits_2 : cX7_tellUnits.data.toList.drop 48 = dktX7_tellUnits_2 := dk_seg dksX7_tellUnits_1 24 rfl rfl
theorem dksX7_tellUnits_3 : cX7_tellUnits.data.toList.drop 72 = dktX7_tellUnits_3 := dk_seg dksX7_tellUnits_2 24 rfl rfl
theorem dksX7_tellUnits_4 : cX7_tellUnits.data.toList.drop 94 = dktX7_tellUnits_4 := dk_seg dksX7_tellUnits_3 22 rfl rfl
theorem dX7_tellUnits_0 : decode cX7_tellUnits 0 = .ok (.aload_n 0, 1) := dk_42 (dk_at dksX7_tellUnits_0 0 rfl rfl)
theorem dX7_tellUnits_1 : decode cX7_tellUnits 1 = .ok (.iconst 0, 1) := dk_3 (dk_at dksX7_tellUnits_0 1 rfl rfl)
theorem dX7_tellUnits_2 : decode cX7_tellUnits 2 = .ok (.putfield 371, 3) := dk_181 1 115 (dk_at dksX7_tellUnits_0 2 rfl rfl)
theorem dX7_tellUnits_5 : decode cX7_tellUnits 5 = .ok (.iconst 0, 1) := dk_3 (dk_at dksX7_tellUnits_0 5 rfl rfl)
theorem dX7_tellUnits_6 : decode cX7_tellUnits 6 = .ok (.istore_n 2, 1) := dk_61 (dk_at dksX7_tellUnits_0 6 rfl rfl)
theorem dX7_tellUnits_7 : decode cX7_tellUnits 7 = .ok (.iload_n 2, 1) := dk_28 (dk_at dksX7_tellUnits_0 7 rfl rfl)
theorem dX7_tellUnits_8 : decode cX7_tellUnits 8 = .ok (.aload_n 0, 1) := dk_42 (dk_at dksX7_tellUnits_0 8 rfl rfl)
theorem dX7_tellUnits_9 : decode cX7_tellUnits 9 = .ok (.getfield 61, 3) := dk_180 0 61 (dk_at dksX7_tellUnits_0 9 rfl rfl)
theorem dX7_tellUnits_12 : decode cX7_tellUnits 12 = .ok (.iload_n 1, 1) := dk_27 (dk_at dksX7_tellUnits_0 12 rfl rfl)
theorem dX7_tellUnits_13 : decode cX7_tellUnits 13 = .ok (.iaload, 1) := dk_46 (dk_at dksX7_tellUnits_0 13 rfl rfl)
theorem dX7_tellUnits_14 : decode cX7_tellUnits 14 = .ok (.if_icmp .ge 94, 3) := dk_162 0 94 (dk_at dksX7_tellUnits_0 14 rfl rfl)
theorem dX7_tellUnits_17 : decode cX7_tellUnits 17 = .ok (.aload_n 0, 1) := dk_42 (dk_at dksX7_tellUnits_0 17 rfl rfl)
theorem dX7_tellUnits_18 : decode cX7_tellUnits 18 = .ok (.getfield 99, 3) := dk_180 0 99 (dk_at dksX7_tellUnits_0 18 rfl rfl)
theorem dX7_tellUnits_21 : decode cX7_tellUnits 21 = .ok (.iload_n 2, 1) := dk_28 (dk_at dksX7_tellUnits_0 21 rfl rfl)
theorem dX7_tellUnits_22 : decode cX7_tellUnits 22 = .ok (.iload_n 2, 1) := dk_28 (dk_at dksX7_tellUnits_0 22 rfl rfl)
theorem dX7_tellUnits_23 : decode cX7_tellUnits 23 = .ok (.iastore, 1) := dk_79 (dk_at dksX7_tellUnits_0 23 rfl rfl)
theorem dX7_tellUnits_24 : decode cX7_tellUnits 24 = .ok (.iconst 0, 1) := dk_3 (dk_at dksX7_tellUnits_1 0 rfl rfl)
theorem dX7_tellUnits_25 : decode cX7_tellUnits 25 = .ok (.istore_n 3, 1) := dk_62 (dk_at dksX7_tellUnits_1 1 rfl rfl)
theorem dX7_tellUnits_26 : decode cX7_tellUnits 26 = .ok (.iload_n 3, 1) := dk_29 (dk_at dksX7_tellUnits_1 2 rfl rfl)
theorem dX7_tellUnits_27 : decode cX7_tellUnits 27 = .ok (.aload_n 0, 1) := dk_42 (dk_at dksX7_tellUnits_1 3 rfl rfl)
theorem dX7_tellUnits_28 : decode cX7_tellUnits 28 = .ok (.getfield 61, 3) := dk_180 0 61 (dk_at dksX7_tellUnits_1 4 rfl rfl)
theorem dX7_tellUnits_31 : decode cX7_tellUnits 31 = .ok (.iload_n 1, 1) := dk_27 (dk_at dksX7_tellUnits_1 7 rfl rfl)
theorem dX7_tellUnits_32 : decode cX7_tellUnits 32 = .ok (.iaload, 1) := dk_46 (dk_at dksX7_tellUnits_1 8 rfl rfl)
theorem dX7_tellUnits_33 : decode cX7_tellUnits 33 = .ok (.if_icmp .ge 49, 3) := dk_162 0 49 (dk_at dksX7_tellUnits_1 9 rfl rfl)
theorem dX7_tellUnits_36 : decode cX7_tellUnits 36 = .ok (.aload_n 0, 1) := dk_42 (dk_at dksX7_tellUnits_1 12 rfl rfl)
theorem dX7_tellUnits_37 : decode cX7_tellUnits 37 = .ok (.aload_n 0, 1) := dk_42 (dk_at dksX7_tellUnits_1 13 rfl rfl)
theorem dX7_tellUnits_38 : decode cX7_tellUnits 38 = .ok (.getfield 64, 3) := dk_180 0 64 (dk_at dksX7_tellUnits_1 14 rfl rfl)
theorem dX7_tellUnits_41 : decode cX7_tellUnits 41 = .ok (.bipush 6, 2) := dk_16 6 (dk_at dksX7_tellUnits_1 17 rfl rfl)
theorem dX7_tellUnits_43 : decode cX7_tellUnits 43 = .ok (.iload_n 1, 1) := dk_27 (dk_at dksX7_tellUnits_1 19 rfl rfl)
theorem dX7_tellUnits_44 : decode cX7_tellUnits 44 = .ok (.imul, 1) := dk_104 (dk_at dksX7_tellUnits_1 20 rfl rfl)
theorem dX7_tellUnits_45 : decode cX7_tellUnits 45 = .ok (.iload_n 2, 1) := dk_28 (dk_at dksX7_tellUnits_1 21 rfl rfl)
theorem dX7_tellUnits_46 : decode cX7_tellUnits 46 = .ok (.iadd, 1) := dk_96 (dk_at dksX7_tellUnits_1 22 rfl rfl)
theorem dX7_tellUnits_47 : decode cX7_tellUnits 47 = .ok (.iaload, 1) := dk_46 (dk_at dksX7_tellUnits_1 23 rfl rfl)
theorem dX7_tellUnits_48 : decode cX7_tellUnits 48 = .ok (.invokevirtual 343, 3) := dk_182 1 87 (dk_at dksX7_tellUnits_2 0 rfl rfl)
theorem dX7_tellUnits_51 : decode cX7_tellUnits 51 = .ok (.aload_n 0, 1) := dk_42 (dk_at dksX7_tellUnits_2 3 rfl rfl)
theorem dX7_tellUnits_52 : decode cX7_tellUnits 52 = .ok (.getfield 64, 3) := dk_180 0 64 (dk_at dksX7_tellUnits_2 4 rfl rfl)
theorem dX7_tellUnits_55 : decode cX7_tellUnits 55 = .ok (.bipush 6, 2) := dk_16 6 (dk_at dksX7_tellUnits_2 7 rfl rfl)
theorem dX7_tellUnits_57 : decode cX7_tellUnits 57 = .ok (.iload_n 1, 1) := dk_27 (dk_at dksX7_tellUnits_2 9 rfl rfl)
theorem dX7_tellUnits_58 : decode cX7_tellUnits 58 = .ok (.imul, 1) := dk_104 (dk_at dksX7_tellUnits_2 10 rfl rfl)
theorem dX7_tellUnits_59 : decode cX7_tellUnits 59 = .ok (.iload_n 3, 1) := dk_29 (dk_at dksX7_tellUnits_2 11 rfl rfl)
theorem dX7_tellUnits_60 : decode cX7_tellUnits 60 = .ok (.iadd, 1) := dk_96 (dk_at dksX7_tellUnits_2 12 rfl rfl)
theorem dX7_tellUnits_61 : decode cX7_tellUnits 61 = .ok (.iaload, 1) := dk_46 (dk_at dksX7_tellUnits_2 13 rfl rfl)
theorem dX7_tellUnits_62 : decode cX7_tellUnits 62 = .ok (.if_icmp .ne 14, 3) := dk_160 0 14 (dk_at dksX7_tellUnits_2 14 rfl rfl)
theorem dX7_tellUnits_65 : decode cX7_tellUnits 65 = .ok (.aload_n 0, 1) := dk_42 (dk_at dksX7_tellUnits_2 17 rfl rfl)
theorem dX7_tellUnits_66 : decode cX7_tellUnits 66 = .ok (.getfield 99, 3) := dk_180 0 99 (dk_at dksX7_tellUnits_2 18 rfl rfl)
theorem dX7_tellUnits_69 : decode cX7_tellUnits 69 = .ok (.iload_n 2, 1) := dk_28 (dk_at dksX7_tellUnits_2 21 rfl rfl)
theorem dX7_tellUnits_70 : decode cX7_tellUnits 70 = .ok (.iload_n 2, 1) := dk_28 (dk_at dksX7_tellUnits_2 22 rfl rfl)
theorem dX7_tellUnits_71 : decode cX7_tellUnits 71 = .ok (.iload_n 3, 1) := dk_29 (dk_at dksX7_tellUnits_2 23 rfl rfl)
theorem dX7_tellUnits_72 : decode cX7_tellUnits 72 = .ok (.invokestatic 285, 3) := dk_184 1 29 (dk_at dksX7_tellUnits_3 0 rfl rfl)
theorem dX7_tellUnits_75 : decode cX7_tellUnits 75 = .ok (.iastore, 1) := dk_79 (dk_at dksX7_tellUnits_3 3 rfl rfl)
theorem dX7_tellUnits_76 : decode cX7_tellUnits 76 = .ok (.iinc 3 1, 3) := dk_132 3 1 (dk_at dksX7_tellUnits_3 4 rfl rfl)
theorem dX7_tellUnits_79 : decode cX7_tellUnits 79 = .ok (.goto (-53), 3) := dk_167 255 203 (dk_at dksX7_tellUnits_3 7 rfl rfl)
theorem dX7_tellUnits_82 : decode cX7_tellUnits 82 = .ok (.aload_n 0, 1) := dk_42 (dk_at dksX7_tellUnits_3 10 rfl rfl)
theorem dX7_tellUnits_83 : decode cX7_tellUnits 83 = .ok (.getfield 99, 3) := dk_180 0 99 (dk_at dksX7_tellUnits_3 11 rfl rfl)
theorem dX7_tellUnits_86 : decode cX7_tellUnits 86 = .ok (.iload_n 2, 1) := dk_28 (dk_at dksX7_tellUnits_3 14 rfl rfl)
theorem dX7_tellUnits_87 : decode cX7_tellUnits 87 = .ok (.iaload, 1) := dk_46 (dk_at dksX7_tellUnits_3 15 rfl rfl)
theorem dX7_tellUnits_88 : decode cX7_tellUnits 88 = .ok (.iload_n 2, 1) := dk_28 (dk_at dksX7_tellUnits_3 16 rfl rfl)
theorem dX7_tellUnits_89 : decode cX7_tellUnits 89 = .ok (.if_icmp .ne 13, 3) := dk_160 0 13 (dk_at dksX7_tellUnits_3 17 rfl rfl)
theorem dX7_tellUnits_92 : decode cX7_tellUnits 92 = .ok (.aload_n 0, 1) := dk_42 (dk_at dksX7_tellUnits_3 20 rfl rfl)
theorem dX7_tellUnits_93 : decode cX7_tellUnits 93 = .ok (.dup, 1) := dk_89 (dk_at dksX7_tellUnits_3 21 rfl rfl)
theorem dX7_tellUnits_94 : decode cX7_tellUnits 94 = .ok (.getfield 371, 3) := dk_180 1 115 (dk_at dksX7_tellUnits_4 0 rfl rfl)
theorem dX7_tellUnits_97 : decode cX7_tellUnits 97 = .ok (.iconst 1, 1) := dk_4 (dk_at dksX7_tellUnits_4 3 rfl rfl)
theorem dX7_tellUnits_98 : decode cX7_tellUnits 98 = .ok (.iadd, 1) := dk_96 (dk_at dksX7_tellUnits_4 4 rfl rfl)
theorem dX7_tellUnits_99 : decode cX7_tellUnits 99 = .ok (.putfield 371, 3) := dk_181 1 115 (dk_at dksX7_tellUnits_4 5 rfl rfl)
theorem dX7_tellUnits_102 : decode cX7_tellUnits 102 = .ok (.iinc 2 1, 3) := dk_132 2 1 (dk_at dksX7_tellUnits_4 8 rfl rfl)
theorem dX7_tellUnits_105 : decode cX7_tellUnits 105 = .ok (.goto (-98), 3) := dk_167 255 158 (dk_at dksX7_tellUnits_4 11 rfl rfl)
theorem dX7_tellUnits_108 : decode cX7_tellUnits 108 = .ok (.return_, 1) := dk_177 (dk_at dksX7_tellUnits_4 14 rfl rfl)
abbrev cX7_answering : ByteArray := prog_21_method_61_code
def yX7_answering : MethodName := ⟨RX7, "answering", "(II)I"⟩
def dkwX7_answering_1 : List UInt8 := [160, 0, 10, 29, 4, 21, 4, 120, 128, 62, 132, 4, 1, 167, 255, 224, 29, 172]
abbrev dktX7_answering_1 : List UInt8 := dkwX7_answering_1 ++ []
def dkwX7_answering_0 : List UInt8 := [3, 62, 3, 54, 4, 21, 4, 42, 180, 0, 38, 3, 46, 162, 0, 27, 42, 21, 4, 27, 182, 1, 105, 28]
abbrev dktX7_answering_0 : List UInt8 := dkwX7_answering_0 ++ dktX7_answering_1
theorem dksX7_answering_0 : cX7_answering.data.toList.drop 0 = dktX7_answering_0 := by decide +kernel
theorem dksX7_answering_1 : cX7_answering.data.toList.drop 24 = dktX7_answering_1 := dk_seg dksX7_answering_0 24 rfl rfl
theorem dX7_answering_0 : decode cX7_answering 0 = .ok (.iconst 0, 1) := dk_3 (dk_at dksX7_answering_0 0 rfl rfl)
theorem dX7_answering_1 : decode cX7_answering 1 = .ok (.istore_n 3, 1) := dk_62 (dk_at dksX7_answering_0 1 rfl rfl)
theorem dX7_answering_2 : decode cX7_answering 2 = .ok (.iconst 0, 1) := dk_3 (dk_at dksX7_answering_0 2 rfl rfl)
theorem dX7_answering_3 : decode cX7_answering 3 = .ok (.istore 4, 2) := dk_54 4 (dk_at dksX7_answering_0 3 rfl rfl)
theorem dX7_answering_5 : decode cX7_answering 5 = .ok (.iload 4, 2) := dk_21 4 (dk_at dksX7_answering_0 5 rfl rfl)
theorem dX7_answering_7 : decode cX7_answering 7 = .ok (.aload_n 0, 1) := dk_42 (dk_at dksX7_answering_0 7 rfl rfl)
theorem dX7_answering_8 : decode cX7_answering 8 = .ok (.getfield 38, 3) := dk_180 0 38 (dk_at dksX7_answering_0 8 rfl rfl)
theorem dX7_answering_11 : decode cX7_answering 11 = .ok (.iconst 0, 1) := dk_3 (dk_at dksX7_answering_0 11 rfl rfl)
theorem dX7_answering_12 : decode cX7_answering 12 = .ok (.iaload, 1) := dk_46 (dk_at dksX7_answering_0 12 rfl rfl)
theorem dX7_answering_13 : decode cX7_answering 13 = .ok (.if_icmp .ge 27, 3) := dk_162 0 27 (dk_at dksX7_answering_0 13 rfl rfl)
theorem dX7_answering_16 : decode cX7_answering 16 = .ok (.aload_n 0, 1) := dk_42 (dk_at dksX7_answering_0 16 rfl rfl)
theorem dX7_answering_17 : decode cX7_answering 17 = .ok (.iload 4, 2) := dk_21 4 (dk_at dksX7_answering_0 17 rfl rfl)
theorem dX7_answering_19 : decode cX7_answering 19 = .ok (.iload_n 1, 1) := dk_27 (dk_at dksX7_answering_0 19 rfl rfl)
theorem dX7_answering_20 : decode cX7_answering 20 = .ok (.invokevirtual 361, 3) := dk_182 1 105 (dk_at dksX7_answering_0 20 rfl rfl)
theorem dX7_answering_23 : decode cX7_answering 23 = .ok (.iload_n 2, 1) := dk_28 (dk_at dksX7_answering_0 23 rfl rfl)
theorem dX7_answering_24 : decode cX7_answering 24 = .ok (.if_icmp .ne 10, 3) := dk_160 0 10 (dk_at dksX7_answering_1 0 rfl rfl)
theorem dX7_answering_27 : decode cX7_answering 27 = .ok (.iload_n 3, 1) := dk_29 (dk_at dksX7_answering_1 3 rfl rfl)
theorem dX7_answering_28 : decode cX7_answering 28 = .ok (.iconst 1, 1) := dk_4 (dk_at dksX7_answering_1 4 rfl rfl)
theorem dX7_answering_29 : decode cX7_answering 29 = .ok (.iload 4, 2) := dk_21 4 (dk_at dksX7_answering_1 5 rfl rfl)
theorem dX7_answering_31 : decode cX7_answering 31 = .ok (.ishl, 1) := dk_120 (dk_at dksX7_answering_1 7 rfl rfl)
theorem dX7_answering_32 : decode cX7_answering 32 = .ok (.ior, 1) := dk_128 (dk_at dksX7_answering_1 8 rfl rfl)
theorem dX7_answering_33 : decode cX7_answering 33 = .ok (.istore_n 3, 1) := dk_62 (dk_at dksX7_answering_1 9 rfl rfl)
theorem dX7_answering_34 : decode cX7_answering 34 = .ok (.iinc 4 1, 3) := dk_132 4 1 (dk_at dksX7_answering_1 10 rfl rfl)
theorem dX7_answering_37 : decode cX7_answering 37 = .ok (.goto (-32), 3) := dk_167 255 224 (dk_at dksX7_answering_1 13 rfl rfl)
theorem dX7_answering_40 : decode cX7_answering 40 = .ok (.iload_n 3, 1) := dk_29 (dk_at dksX7_answering_1 16 rfl rfl)
theorem dX7_answering_41 : decode cX7_answering 41 = .ok (.ireturn, 1) := dk_172 (dk_at dksX7_answering_1 17 rfl rfl)
abbrev cX7_mayNow : ByteArray := prog_21_method_49_code
def yX7_mayNow : MethodName := ⟨RX7, "mayNow", "(II)I"⟩
def dkwX7_mayNow_5 : List UInt8 := [172, 42, 180, 0, 83, 28, 46, 2, 160, 0, 7, 3, 167, 0, 5, 16, 6, 172]
abbrev dktX7_mayNow_5 : List UInt8 := dkwX7_mayNow_5 ++ []
def dkwX7_mayNow_4 : List UInt8 := [157, 0, 23, 42, 180, 1, 68, 42, 180, 0, 55, 28, 46, 42, 180, 0, 58, 28, 46, 96, 164, 0, 5, 8]
abbrev dktX7_mayNow_4 : List UInt8 := dkwX7_mayNow_4 ++ dktX7_mayNow_5
def dkwX7_mayNow_3 : List UInt8 := [154, 0, 18, 42, 180, 1, 68, 42, 180, 0, 55, 28, 46, 162, 0, 5, 7, 172, 42, 180, 1, 65]
abbrev dktX7_mayNow_3 : List UInt8 := dkwX7_mayNow_3 ++ dktX7_mayNow_4
def dkwX7_mayNow_2 : List UInt8 := [5, 172, 132, 3, 1, 167, 255, 216, 42, 27, 28, 182, 1, 102, 153, 0, 5, 6, 172, 42, 180, 1, 65]
abbrev dktX7_mayNow_2 : List UInt8 := dkwX7_mayNow_2 ++ dktX7_mayNow_3
def dkwX7_mayNow_1 : List UInt8 := [180, 0, 44, 42, 180, 0, 64, 16, 6, 28, 104, 29, 96, 46, 46, 42, 180, 0, 44, 27, 46, 160, 0, 5]
abbrev dktX7_mayNow_1 : List UInt8 := dkwX7_mayNow_1 ++ dktX7_mayNow_2
def dkwX7_mayNow_0 : List UInt8 := [42, 27, 28, 182, 1, 99, 153, 0, 5, 4, 172, 3, 62, 29, 42, 180, 0, 61, 28, 46, 162, 0, 36, 42]
abbrev dktX7_mayNow_0 : List UInt8 := dkwX7_mayNow_0 ++ dktX7_mayNow_1
theorem dksX7_mayNow_0 : cX7_mayNow.data.toList.drop 0 = dktX7_mayNow_0 := by decide +kernel
theorem dksX7_mayNow_1 : cX7_mayNow.data.toList.drop 24 = dktX7_mayNow_1 := dk_seg dksX7_mayNow_0 24 rfl rfl
theorem dksX7_mayNow_2 : cX7_mayNow.data.toList.drop 48 = dktX7_mayNow_2 := dk_seg dksX7_mayNow_1 24 rfl rfl
theorem dksX7_mayNow_3 : cX7_mayNow.data.toList.drop 71 = dktX7_mayNow_3 := dk_seg dksX7_mayNow_2 23 rfl rfl
theorem dksX7_mayNow_4 : cX7_mayNow.data.toList.drop 93 = dktX7_mayNow_4 := dk_seg dksX7_mayNow_3 22 rfl rfl
theorem dksX7_mayNow_5 : cX7_mayNow.data.toList.drop 117 = dktX7_mayNow_5 := dk_seg dksX7_mayNow_4 24 rfl rfl
theorem dX7_mayNow_0 : decode cX7_mayNow 0 = .ok (.aload_n 0, 1) := dk_42 (dk_at dksX7_mayNow_0 0 rfl rfl)
theorem dX7_mayNow_1 : decode cX7_mayNow 1 = .ok (.iload_n 1, 1) := dk_27 (dk_at dksX7_mayNow_0 1 rfl rfl)
theorem dX7_mayNow_2 : decode cX7_mayNow 2 = .ok (.iload_n 2, 1) := dk_28 (dk_at dksX7_mayNow_0 2 rfl rfl)
theorem dX7_mayNow_3 : decode cX7_mayNow 3 = .ok (.invokevirtual 355, 3) := dk_182 1 99 (dk_at dksX7_mayNow_0 3 rfl rfl)
theorem dX7_mayNow_6 : decode cX7_mayNow 6 = .ok (.ifCond .eq 5, 3) := dk_153 0 5 (dk_at dksX7_mayNow_0 6 rfl rfl)
theorem dX7_mayNow_9 : decode cX7_mayNow 9 = .ok (.iconst 1, 1) := dk_4 (dk_at dksX7_mayNow_0 9 rfl rfl)
theorem dX7_mayNow_10 : decode cX7_mayNow 10 = .ok (.ireturn, 1) := dk_172 (dk_at dksX7_mayNow_0 10 rfl rfl)
theorem dX7_mayNow_11 : decode cX7_mayNow 11 = .ok (.iconst 0, 1) := dk_3 (dk_at dksX7_mayNow_0 11 rfl rfl)
theorem dX7_mayNow_12 : decode cX7_mayNow 12 = .ok (.istore_n 3, 1) := dk_62 (dk_at dksX7_mayNow_0 12 rfl rfl)
theorem dX7_mayNow_13 : decode cX7_mayNow 13 = .ok (.iload_n 3, 1) := dk_29 (dk_at dksX7_mayNow_0 13 rfl rfl)
theorem dX7_mayNow_14 : decode cX7_mayNow 14 = .ok (.aload_n 0, 1) := dk_42 (dk_at dksX7_mayNow_0 14 rfl rfl)
theorem dX7_mayNow_15 : decode cX7_mayNow 15 = .ok (.getfield 61, 3) := dk_180 0 61 (dk_at dksX7_mayNow_0 15 rfl rfl)
theorem dX7_mayNow_18 : decode cX7_mayNow 18 = .ok (.iload_n 2, 1) := dk_28 (dk_at dksX7_mayNow_0 18 rfl rfl)
theorem dX7_mayNow_19 : decode cX7_mayNow 19 = .ok (.iaload, 1) := dk_46 (dk_at dksX7_mayNow_0 19 rfl rfl)
theorem dX7_mayNow_20 : decode cX7_mayNow 20 = .ok (.if_icmp .ge 36, 3) := dk_162 0 36 (dk_at dksX7_mayNow_0 20 rfl rfl)
theorem dX7_mayNow_23 : decode cX7_mayNow 23 = .ok (.aload_n 0, 1) := dk_42 (dk_at dksX7_mayNow_0 23 rfl rfl)
theorem dX7_mayNow_24 : decode cX7_mayNow 24 = .ok (.getfield 44, 3) := dk_180 0 44 (dk_at dksX7_mayNow_1 0 rfl rfl)
theorem dX7_mayNow_27 : decode cX7_mayNow 27 = .ok (.aload_n 0, 1) := dk_42 (dk_at dksX7_mayNow_1 3 rfl rfl)
theorem dX7_mayNow_28 : decode cX7_mayNow 28 = .ok (.getfield 64, 3) := dk_180 0 64 (dk_at dksX7_mayNow_1 4 rfl rfl)
theorem dX7_mayNow_31 : decode cX7_mayNow 31 = .ok (.bipush 6, 2) := dk_16 6 (dk_at dksX7_mayNow_1 7 rfl rfl)
theorem dX7_mayNow_33 : decode cX7_mayNow 33 = .ok (.iload_n 2, 1) := dk_28 (dk_at dksX7_mayNow_1 9 rfl rfl)
theorem dX7_mayNow_34 : decode cX7_mayNow 34 = .ok (.imul, 1) := dk_104 (dk_at dksX7_mayNow_1 10 rfl rfl)
theorem dX7_mayNow_35 : decode cX7_mayNow 35 = .ok (.iload_n 3, 1) := dk_29 (dk_at dksX7_mayNow_1 11 rfl rfl)
theorem dX7_mayNow_36 : decode cX7_mayNow 36 = .ok (.iadd, 1) := dk_96 (dk_at dksX7_mayNow_1 12 rfl rfl)
theorem dX7_mayNow_37 : decode cX7_mayNow 37 = .ok (.iaload, 1) := dk_46 (dk_at dksX7_mayNow_1 13 rfl rfl)
theorem dX7_mayNow_38 : decode cX7_mayNow 38 = .ok (.iaload, 1) := dk_46 (dk_at dksX7_mayNow_1 14 rfl rfl)
theorem dX7_mayNow_39 : decode cX7_mayNow 39 = .ok (.aload_n 0, 1) := dk_42 (dk_at dksX7_mayNow_1 15 rfl rfl)
theorem dX7_mayNow_40 : decode cX7_mayNow 40 = .ok (.getfield 44, 3) := dk_180 0 44 (dk_at dksX7_mayNow_1 16 rfl rfl)
theorem dX7_mayNow_43 : decode cX7_mayNow 43 = .ok (.iload_n 1, 1) := dk_27 (dk_at dksX7_mayNow_1 19 rfl rfl)
theorem dX7_mayNow_44 : decode cX7_mayNow 44 = .ok (.iaload, 1) := dk_46 (dk_at dksX7_mayNow_1 20 rfl rfl)
theorem dX7_mayNow_45 : decode cX7_mayNow 45 = .ok (.if_icmp .ne 5, 3) := dk_160 0 5 (dk_at dksX7_mayNow_1 21 rfl rfl)
theorem dX7_mayNow_48 : decode cX7_mayNow 48 = .ok (.iconst 2, 1) := dk_5 (dk_at dksX7_mayNow_2 0 rfl rfl)
theorem dX7_mayNow_49 : decode cX7_mayNow 49 = .ok (.ireturn, 1) := dk_172 (dk_at dksX7_mayNow_2 1 rfl rfl)
theorem dX7_mayNow_50 : decode cX7_mayNow 50 = .ok (.iinc 3 1, 3) := dk_132 3 1 (dk_at dksX7_mayNow_2 2 rfl rfl)
theorem dX7_mayNow_53 : decode cX7_mayNow 53 = .ok (.goto (-40), 3) := dk_167 255 216 (dk_at dksX7_mayNow_2 5 rfl rfl)
theorem dX7_mayNow_56 : decode cX7_mayNow 56 = .ok (.aload_n 0, 1) := dk_42 (dk_at dksX7_mayNow_2 8 rfl rfl)
theorem dX7_mayNow_57 : decode cX7_mayNow 57 = .ok (.iload_n 1, 1) := dk_27 (dk_at dksX7_mayNow_2 9 rfl rfl)
theorem dX7_mayNow_58 : decode cX7_mayNow 58 = .ok (.iload_n 2, 1) := dk_28 (dk_at dksX7_mayNow_2 10 rfl rfl)
theorem dX7_mayNow_59 : decode cX7_mayNow 59 = .ok (.invokevirtual 358, 3) := dk_182 1 102 (dk_at dksX7_mayNow_2 11 rfl rfl)
theorem dX7_mayNow_62 : decode cX7_mayNow 62 = .ok (.ifCond .eq 5, 3) := dk_153 0 5 (dk_at dksX7_mayNow_2 14 rfl rfl)
theorem dX7_mayNow_65 : decode cX7_mayNow 65 = .ok (.iconst 3, 1) := dk_6 (dk_at dksX7_mayNow_2 17 rfl rfl)
theorem dX7_mayNow_66 : decode cX7_mayNow 66 = .ok (.ireturn, 1) := dk_172 (dk_at dksX7_mayNow_2 18 rfl rfl)
theorem dX7_mayNow_67 : decode cX7_mayNow 67 = .ok (.aload_n 0, 1) := dk_42 (dk_at dksX7_mayNow_2 19 rfl rfl)
theorem dX7_mayNow_68 : decode cX7_mayNow 68 = .ok (.getfield 321, 3) := dk_180 1 65 (dk_at dksX7_mayNow_2 20 rfl rfl)
theorem dX7_mayNow_71 : decode cX7_mayNow 71 = .ok (.ifCond .ne 18, 3) := dk_154 0 18 (dk_at dksX7_mayNow_3 0 rfl rfl)
theorem dX7_mayNow_74 : decode cX7_mayNow 74 = .ok (.aload_n 0, 1) := dk_42 (dk_at dksX7_mayNow_3 3 rfl rfl)
theorem dX7_mayNow_75 : decode cX7_mayNow 75 = .ok (.getfield 324, 3) := dk_180 1 68 (dk_at dksX7_mayNow_3 4 rfl rfl)
theorem dX7_mayNow_78 : decode cX7_mayNow 78 = .ok (.aload_n 0, 1) := dk_42 (dk_at dksX7_mayNow_3 7 rfl rfl)
theorem dX7_mayNow_79 : decode cX7_mayNow 79 = .ok (.getfield 55, 3) := dk_180 0 55 (dk_at dksX7_mayNow_3 8 rfl rfl)
theorem dX7_mayNow_82 : decode cX7_mayNow 82 = .ok (.iload_n 2, 1) := dk_28 (dk_at dksX7_mayNow_3 11 rfl rfl)
theorem dX7_mayNow_83 : decode cX7_mayNow 83 = .ok (.iaload, 1) := dk_46 (dk_at dksX7_mayNow_3 12 rfl rfl)
theorem dX7_mayNow_84 : decode cX7_mayNow 84 = .ok (.if_icmp .ge 5, 3) := dk_162 0 5 (dk_at dksX7_mayNow_3 13 rfl rfl)
theorem dX7_mayNow_87 : decode cX7_mayNow 87 = .ok (.iconst 4, 1) := dk_7 (dk_at dksX7_mayNow_3 16 rfl rfl)
theorem dX7_mayNow_88 : decode cX7_mayNow 88 = .ok (.ireturn, 1) := dk_172 (dk_at dksX7_mayNow_3 17 rfl rfl)
theorem dX7_mayNow_89 : decode cX7_mayNow 89 = .ok (.aload_n 0, 1) := dk_42 (dk_at dksX7_mayNow_3 18 rfl rfl)
theorem dX7_mayNow_90 : decode cX7_mayNow 90 = .ok (.getfield 321, 3) := dk_180 1 65 (dk_at dksX7_mayNow_3 19 rfl rfl)
theorem dX7_mayNow_93 : decode cX7_mayNow 93 = .ok (.ifCond .gt 23, 3) := dk_157 0 23 (dk_at dksX7_mayNow_4 0 rfl rfl)
theorem dX7_mayNow_96 : decode cX7_mayNow 96 = .ok (.aload_n 0, 1) := dk_42 (dk_at dksX7_mayNow_4 3 rfl rfl)
theorem dX7_mayNow_97 : decode cX7_mayNow 97 = .ok (.getfield 324, 3) := dk_180 1 68 (dk_at dksX7_mayNow_4 4 rfl rfl)
theorem dX7_mayNow_100 : decode cX7_mayNow 100 = .ok (.aload_n 0, 1) := dk_42 (dk_at dksX7_mayNow_4 7 rfl rfl)
theorem dX7_mayNow_101 : decode cX7_mayNow 101 = .ok (.getfield 55, 3) := dk_180 0 55 (dk_at dksX7_mayNow_4 8 rfl rfl)
theorem dX7_mayNow_104 : decode cX7_mayNow 104 = .ok (.iload_n 2, 1) := dk_28 (dk_at dksX7_mayNow_4 11 rfl rfl)
theorem dX7_mayNow_105 : decode cX7_mayNow 105 = .ok (.iaload, 1) := dk_46 (dk_at dksX7_mayNow_4 12 rfl rfl)
theorem dX7_mayNow_106 : decode cX7_mayNow 106 = .ok (.aload_n 0, 1) := dk_42 (dk_at dksX7_mayNow_4 13 rfl rfl)
theorem dX7_mayNow_107 : decode cX7_mayNow 107 = .ok (.getfield 58, 3) := dk_180 0 58 (dk_at dksX7_mayNow_4 14 rfl rfl)
theorem dX7_mayNow_110 : decode cX7_mayNow 110 = .ok (.iload_n 2, 1) := dk_28 (dk_at dksX7_mayNow_4 17 rfl rfl)
theorem dX7_mayNow_111 : decode cX7_mayNow 111 = .ok (.iaload, 1) := dk_46 (dk_at dksX7_mayNow_4 18 rfl rfl)
theorem dX7_mayNow_112 : decode cX7_mayNow 112 = .ok (.iadd, 1) := dk_96 (dk_at dksX7_mayNow_4 19 rfl rfl)
theorem dX7_mayNow_113 : decode cX7_mayNow 113 = .ok (.if_icmp .le 5, 3) := dk_164 0 5 (dk_at dksX7_mayNow_4 20 rfl rfl)
theorem dX7_mayNow_116 : decode cX7_mayNow 116 = .ok (.iconst 5, 1) := dk_8 (dk_at dksX7_mayNow_4 23 rfl rfl)
theorem dX7_mayNow_117 : decode cX7_mayNow 117 = .ok (.ireturn, 1) := dk_172 (dk_at dksX7_mayNow_5 0 rfl rfl)
theorem dX7_mayNow_118 : decode cX7_mayNow 118 = .ok (.aload_n 0, 1) := dk_42 (dk_at dksX7_mayNow_5 1 rfl rfl)
theorem dX7_mayNow_119 : decode cX7_mayNow 119 = .ok (.getfield 83, 3) := dk_180 0 83 (dk_at dksX7_mayNow_5 2 rfl rfl)
theorem dX7_mayNow_122 : decode cX7_mayNow 122 = .ok (.iload_n 2, 1) := dk_28 (dk_at dksX7_mayNow_5 5 rfl rfl)
theorem dX7_mayNow_123 : decode cX7_mayNow 123 = .ok (.iaload, 1) := dk_46 (dk_at dksX7_mayNow_5 6 rfl rfl)
theorem dX7_mayNow_124 : decode cX7_mayNow 124 = .ok (.iconst (-1), 1) := dk_2 (dk_at dksX7_mayNow_5 7 rfl rfl)
theorem dX7_mayNow_125 : decode cX7_mayNow 125 = .ok (.if_icmp .ne 7, 3) := dk_160 0 7 (dk_at dksX7_mayNow_5 8 rfl rfl)
theorem dX7_mayNow_128 : decode cX7_mayNow 128 = .ok (.iconst 0, 1) := dk_3 (dk_at dksX7_mayNow_5 11 rfl rfl)
theorem dX7_mayNow_129 : decode cX7_mayNow 129 = .ok (.goto 5, 3) := dk_167 0 5 (dk_at dksX7_mayNow_5 12 rfl rfl)
theorem dX7_mayNow_132 : decode cX7_mayNow 132 = .ok (.bipush 6, 2) := dk_16 6 (dk_at dksX7_mayNow_5 15 rfl rfl)
theorem dX7_mayNow_134 : decode cX7_mayNow 134 = .ok (.ireturn, 1) := dk_172 (dk_at dksX7_mayNow_5 17 rfl rfl)
abbrev cX7_eats : ByteArray := prog_21_method_47_code
def yX7_eats : MethodName := ⟨RX7, "eats", "(II)Z"⟩
def dkwX7_eats_1 : List UInt8 := [42, 27, 182, 1, 87, 184, 1, 22, 153, 0, 7, 4, 167, 0, 4, 3, 172]
abbrev dktX7_eats_1 : List UInt8 := dkwX7_eats_1 ++ []
def dkwX7_eats_0 : List UInt8 := [42, 28, 182, 1, 96, 62, 29, 27, 184, 1, 22, 154, 0, 24, 42, 27, 182, 1, 87, 2, 159, 0, 19, 29]
abbrev dktX7_eats_0 : List UInt8 := dkwX7_eats_0 ++ dktX7_eats_1
theorem dksX7_eats_0 : cX7_eats.data.toList.drop 0 = dktX7_eats_0 := by decide +kernel
theorem dksX7_eats_1 : cX7_eats.data.toList.drop 24 = dktX7_eats_1 := dk_seg dksX7_eats_0 24 rfl rfl
theorem dX7_eats_0 : decode cX7_eats 0 = .ok (.aload_n 0, 1) := dk_42 (dk_at dksX7_eats_0 0 rfl rfl)
theorem dX7_eats_1 : decode cX7_eats 1 = .ok (.iload_n 2, 1) := dk_28 (dk_at dksX7_eats_0 1 rfl rfl)
theorem dX7_eats_2 : decode cX7_eats 2 = .ok (.invokevirtual 352, 3) := dk_182 1 96 (dk_at dksX7_eats_0 2 rfl rfl)
theorem dX7_eats_5 : decode cX7_eats 5 = .ok (.istore_n 3, 1) := dk_62 (dk_at dksX7_eats_0 5 rfl rfl)
theorem dX7_eats_6 : decode cX7_eats 6 = .ok (.iload_n 3, 1) := dk_29 (dk_at dksX7_eats_0 6 rfl rfl)
theorem dX7_eats_7 : decode cX7_eats 7 = .ok (.iload_n 1, 1) := dk_27 (dk_at dksX7_eats_0 7 rfl rfl)
theorem dX7_eats_8 : decode cX7_eats 8 = .ok (.invokestatic 278, 3) := dk_184 1 22 (dk_at dksX7_eats_0 8 rfl rfl)
theorem dX7_eats_11 : decode cX7_eats 11 = .ok (.ifCond .ne 24, 3) := dk_154 0 24 (dk_at dksX7_eats_0 11 rfl rfl)
theorem dX7_eats_14 : decode cX7_eats 14 = .ok (.aload_n 0, 1) := dk_42 (dk_at dksX7_eats_0 14 rfl rfl)
theorem dX7_eats_15 : decode cX7_eats 15 = .ok (.iload_n 1, 1) := dk_27 (dk_at dksX7_eats_0 15 rfl rfl)
theorem dX7_eats_16 : decode cX7_eats 16 = .ok (.invokevirtual 343, 3) := dk_182 1 87 (dk_at dksX7_eats_0 16 rfl rfl)
theorem dX7_eats_19 : decode cX7_eats 19 = .ok (.iconst (-1), 1) := dk_2 (dk_at dksX7_eats_0 19 rfl rfl)
theorem dX7_eats_20 : decode cX7_eats 20 = .ok (.if_icmp .eq 19, 3) := dk_159 0 19 (dk_at dksX7_eats_0 20 rfl rfl)
theorem dX7_eats_23 : decode cX7_eats 23 = .ok (.iload_n 3, 1) := dk_29 (dk_at dksX7_eats_0 23 rfl rfl)
theorem dX7_eats_24 : decode cX7_eats 24 = .ok (.aload_n 0, 1) := dk_42 (dk_at dksX7_eats_1 0 rfl rfl)
theorem dX7_eats_25 : decode cX7_eats 25 = .ok (.iload_n 1, 1) := dk_27 (dk_at dksX7_eats_1 1 rfl rfl)
theorem dX7_eats_26 : decode cX7_eats 26 = .ok (.invokevirtual 343, 3) := dk_182 1 87 (dk_at dksX7_eats_1 2 rfl rfl)
theorem dX7_eats_29 : decode cX7_eats 29 = .ok (.invokestatic 278, 3) := dk_184 1 22 (dk_at dksX7_eats_1 5 rfl rfl)
theorem dX7_eats_32 : decode cX7_eats 32 = .ok (.ifCond .eq 7, 3) := dk_153 0 7 (dk_at dksX7_eats_1 8 rfl rfl)
theorem dX7_eats_35 : decode cX7_eats 35 = .ok (.iconst 1, 1) := dk_4 (dk_at dksX7_eats_1 11 rfl rfl)
theorem dX7_eats_36 : decode cX7_eats 36 = .ok (.goto 4, 3) := dk_167 0 4 (dk_at dksX7_eats_1 12 rfl rfl)
theorem dX7_eats_39 : decode cX7_eats 39 = .ok (.iconst 0, 1) := dk_3 (dk_at dksX7_eats_1 15 rfl rfl)
theorem dX7_eats_40 : decode cX7_eats 40 = .ok (.ireturn, 1) := dk_172 (dk_at dksX7_eats_1 16 rfl rfl)
abbrev cX7_knowsEater : ByteArray := prog_21_method_48_code
def yX7_knowsEater : MethodName := ⟨RX7, "knowsEater", "(II)Z"⟩
def dkwX7_knowsEater_2 : List UInt8 := [167, 255, 212, 3, 172]
abbrev dktX7_knowsEater_2 : List UInt8 := dkwX7_knowsEater_2 ++ []
def dkwX7_knowsEater_1 : List UInt8 := [54, 4, 21, 4, 27, 159, 0, 15, 42, 27, 21, 4, 182, 1, 93, 153, 0, 5, 4, 172, 132, 3, 1]
abbrev dktX7_knowsEater_1 : List UInt8 := dkwX7_knowsEater_1 ++ dktX7_knowsEater_2
def dkwX7_knowsEater_0 : List UInt8 := [3, 62, 29, 42, 180, 0, 61, 28, 46, 162, 0, 40, 42, 180, 0, 64, 16, 6, 28, 104, 29, 96, 46]
abbrev dktX7_knowsEater_0 : List UInt8 := dkwX7_knowsEater_0 ++ dktX7_knowsEater_1
theorem dksX7_knowsEater_0 : cX7_knowsEater.data.toList.drop 0 = dktX7_knowsEater_0 := by decide +kernel
theorem dksX7_knowsEater_1 : cX7_knowsEater.data.toList.drop 23 = dktX7_knowsEater_1 := dk_seg dksX7_knowsEater_0 23 rfl rfl
theorem dksX7_knowsEater_2 : cX7_knowsEater.data.toList.drop 46 = dktX7_knowsEater_2 := dk_seg dksX7_knowsEater_1 23 rfl rfl
theorem dX7_knowsEater_0 : decode cX7_knowsEater 0 = .ok (.iconst 0, 1) := dk_3 (dk_at dksX7_knowsEater_0 0 rfl rfl)
theorem dX7_knowsEater_1 : decode cX7_knowsEater 1 = .ok (.istore_n 3, 1) := dk_62 (dk_at dksX7_knowsEater_0 1 rfl rfl)
theorem dX7_knowsEater_2 : decode cX7_knowsEater 2 = .ok (.iload_n 3, 1) := dk_29 (dk_at dksX7_knowsEater_0 2 rfl rfl)
theorem dX7_knowsEater_3 : decode cX7_knowsEater 3 = .ok (.aload_n 0, 1) := dk_42 (dk_at dksX7_knowsEater_0 3 rfl rfl)
theorem dX7_knowsEater_4 : decode cX7_knowsEater 4 = .ok (.getfield 61, 3) := dk_180 0 61 (dk_at dksX7_knowsEater_0 4 rfl rfl)
theorem dX7_knowsEater_7 : decode cX7_knowsEater 7 = .ok (.iload_n 2, 1) := dk_28 (dk_at dksX7_knowsEater_0 7 rfl rfl)
theorem dX7_knowsEater_8 : decode cX7_knowsEater 8 = .ok (.iaload, 1) := dk_46 (dk_at dksX7_knowsEater_0 8 rfl rfl)
theorem dX7_knowsEater_9 : decode cX7_knowsEater 9 = .ok (.if_icmp .ge 40, 3) := dk_162 0 40 (dk_at dksX7_knowsEater_0 9 rfl rfl)
theorem dX7_knowsEater_12 : decode cX7_knowsEater 12 = .ok (.aload_n 0, 1) := dk_42 (dk_at dksX7_knowsEater_0 12 rfl rfl)
theorem dX7_knowsEater_13 : decode cX7_knowsEater 13 = .ok (.getfield 64, 3) := dk_180 0 64 (dk_at dksX7_knowsEater_0 13 rfl rfl)
theorem dX7_knowsEater_16 : decode cX7_knowsEater 16 = .ok (.bipush 6, 2) := dk_16 6 (dk_at dksX7_knowsEater_0 16 rfl rfl)
theorem dX7_knowsEater_18 : decode cX7_knowsEater 18 = .ok (.iload_n 2, 1) := dk_28 (dk_at dksX7_knowsEater_0 18 rfl rfl)
theorem dX7_knowsEater_19 : decode cX7_knowsEater 19 = .ok (.imul, 1) := dk_104 (dk_at dksX7_knowsEater_0 19 rfl rfl)
theorem dX7_knowsEater_20 : decode cX7_knowsEater 20 = .ok (.iload_n 3, 1) := dk_29 (dk_at dksX7_knowsEater_0 20 rfl rfl)
theorem dX7_knowsEater_21 : decode cX7_knowsEater 21 = .ok (.iadd, 1) := dk_96 (dk_at dksX7_knowsEater_0 21 rfl rfl)
theorem dX7_knowsEater_22 : decode cX7_knowsEater 22 = .ok (.iaload, 1) := dk_46 (dk_at dksX7_knowsEater_0 22 rfl rfl)
theorem dX7_knowsEater_23 : decode cX7_knowsEater 23 = .ok (.istore 4, 2) := dk_54 4 (dk_at dksX7_knowsEater_1 0 rfl rfl)
theorem dX7_knowsEater_25 : decode cX7_knowsEater 25 = .ok (.iload 4, 2) := dk_21 4 (dk_at dksX7_knowsEater_1 2 rfl rfl)
theorem dX7_knowsEater_27 : decode cX7_knowsEater 27 = .ok (.iload_n 1, 1) := dk_27 (dk_at dksX7_knowsEater_1 4 rfl rfl)
theorem dX7_knowsEater_28 : decode cX7_knowsEater 28 = .ok (.if_icmp .eq 15, 3) := dk_159 0 15 (dk_at dksX7_knowsEater_1 5 rfl rfl)
theorem dX7_knowsEater_31 : decode cX7_knowsEater 31 = .ok (.aload_n 0, 1) := dk_42 (dk_at dksX7_knowsEater_1 8 rfl rfl)
theorem dX7_knowsEater_32 : decode cX7_knowsEater 32 = .ok (.iload_n 1, 1) := dk_27 (dk_at dksX7_knowsEater_1 9 rfl rfl)
theorem dX7_knowsEater_33 : decode cX7_knowsEater 33 = .ok (.iload 4, 2) := dk_21 4 (dk_at dksX7_knowsEater_1 10 rfl rfl)
theorem dX7_knowsEater_35 : decode cX7_knowsEater 35 = .ok (.invokevirtual 349, 3) := dk_182 1 93 (dk_at dksX7_knowsEater_1 12 rfl rfl)
theorem dX7_knowsEater_38 : decode cX7_knowsEater 38 = .ok (.ifCond .eq 5, 3) := dk_153 0 5 (dk_at dksX7_knowsEater_1 15 rfl rfl)
theorem dX7_knowsEater_41 : decode cX7_knowsEater 41 = .ok (.iconst 1, 1) := dk_4 (dk_at dksX7_knowsEater_1 18 rfl rfl)
theorem dX7_knowsEater_42 : decode cX7_knowsEater 42 = .ok (.ireturn, 1) := dk_172 (dk_at dksX7_knowsEater_1 19 rfl rfl)
theorem dX7_knowsEater_43 : decode cX7_knowsEater 43 = .ok (.iinc 3 1, 3) := dk_132 3 1 (dk_at dksX7_knowsEater_1 20 rfl rfl)
theorem dX7_knowsEater_46 : decode cX7_knowsEater 46 = .ok (.goto (-44), 3) := dk_167 255 212 (dk_at dksX7_knowsEater_2 0 rfl rfl)
theorem dX7_knowsEater_49 : decode cX7_knowsEater 49 = .ok (.iconst 0, 1) := dk_3 (dk_at dksX7_knowsEater_2 3 rfl rfl)
theorem dX7_knowsEater_50 : decode cX7_knowsEater 50 = .ok (.ireturn, 1) := dk_172 (dk_at dksX7_knowsEater_2 4 rfl rfl)
abbrev cX7_met : ByteArray := prog_21_method_62_code
def yX7_met : MethodName := ⟨RX7, "met", "(II)I"⟩
def dkwX7_met_2 : List UInt8 := [160, 0, 7, 2, 167, 0, 14, 42, 180, 1, 65, 42, 27, 28, 182, 1, 90, 100, 172]
abbrev dktX7_met_2 : List UInt8 := dkwX7_met_2 ++ []
def dkwX7_met_1 : List UInt8 := [182, 1, 51, 172, 27, 28, 160, 0, 9, 42, 5, 182, 1, 51, 172, 42, 27, 28, 182, 1, 90, 19, 1, 54]
abbrev dktX7_met_1 : List UInt8 := dkwX7_met_1 ++ dktX7_met_2
def dkwX7_met_0 : List UInt8 := [42, 3, 181, 0, 159, 42, 27, 182, 1, 133, 153, 0, 11, 42, 28, 182, 1, 133, 154, 0, 9, 42, 4]
abbrev dktX7_met_0 : List UInt8 := dkwX7_met_0 ++ dktX7_met_1
theorem dksX7_met_0 : cX7_met.data.toList.drop 0 = dktX7_met_0 := by decide +kernel
theorem dksX7_met_1 : cX7_met.data.toList.drop 23 = dktX7_met_1 := dk_seg dksX7_met_0 23 rfl rfl
theorem dksX7_met_2 : cX7_met.data.toList.drop 47 = dktX7_met_2 := dk_seg dksX7_met_1 24 rfl rfl
theorem dX7_met_0 : decode cX7_met 0 = .ok (.aload_n 0, 1) := dk_42 (dk_at dksX7_met_0 0 rfl rfl)
theorem dX7_met_1 : decode cX7_met 1 = .ok (.iconst 0, 1) := dk_3 (dk_at dksX7_met_0 1 rfl rfl)
theorem dX7_met_2 : decode cX7_met 2 = .ok (.putfield 159, 3) := dk_181 0 159 (dk_at dksX7_met_0 2 rfl rfl)
theorem dX7_met_5 : decode cX7_met 5 = .ok (.aload_n 0, 1) := dk_42 (dk_at dksX7_met_0 5 rfl rfl)
theorem dX7_met_6 : decode cX7_met 6 = .ok (.iload_n 1, 1) := dk_27 (dk_at dksX7_met_0 6 rfl rfl)
theorem dX7_met_7 : decode cX7_met 7 = .ok (.invokevirtual 389, 3) := dk_182 1 133 (dk_at dksX7_met_0 7 rfl rfl)
theorem dX7_met_10 : decode cX7_met 10 = .ok (.ifCond .eq 11, 3) := dk_153 0 11 (dk_at dksX7_met_0 10 rfl rfl)
theorem dX7_met_13 : decode cX7_met 13 = .ok (.aload_n 0, 1) := dk_42 (dk_at dksX7_met_0 13 rfl rfl)
theorem dX7_met_14 : decode cX7_met 14 = .ok (.iload_n 2, 1) := dk_28 (dk_at dksX7_met_0 14 rfl rfl)
theorem dX7_met_15 : decode cX7_met 15 = .ok (.invokevirtual 389, 3) := dk_182 1 133 (dk_at dksX7_met_0 15 rfl rfl)
theorem dX7_met_18 : decode cX7_met 18 = .ok (.ifCond .ne 9, 3) := dk_154 0 9 (dk_at dksX7_met_0 18 rfl rfl)
theorem dX7_met_21 : decode cX7_met 21 = .ok (.aload_n 0, 1) := dk_42 (dk_at dksX7_met_0 21 rfl rfl)
theorem dX7_met_22 : decode cX7_met 22 = .ok (.iconst 1, 1) := dk_4 (dk_at dksX7_met_0 22 rfl rfl)
theorem dX7_met_23 : decode cX7_met 23 = .ok (.invokevirtual 307, 3) := dk_182 1 51 (dk_at dksX7_met_1 0 rfl rfl)
theorem dX7_met_26 : decode cX7_met 26 = .ok (.ireturn, 1) := dk_172 (dk_at dksX7_met_1 3 rfl rfl)
theorem dX7_met_27 : decode cX7_met 27 = .ok (.iload_n 1, 1) := dk_27 (dk_at dksX7_met_1 4 rfl rfl)
theorem dX7_met_28 : decode cX7_met 28 = .ok (.iload_n 2, 1) := dk_28 (dk_at dksX7_met_1 5 rfl rfl)
theorem dX7_met_29 : decode cX7_met 29 = .ok (.if_icmp .ne 9, 3) := dk_160 0 9 (dk_at dksX7_met_1 6 rfl rfl)
theorem dX7_met_32 : decode cX7_met 32 = .ok (.aload_n 0, 1) := dk_42 (dk_at dksX7_met_1 9 rfl rfl)
theorem dX7_met_33 : decode cX7_met 33 = .ok (.iconst 2, 1) := dk_5 (dk_at dksX7_met_1 10 rfl rfl)
theorem dX7_met_34 : decode cX7_met 34 = .ok (.invokevirtual 307, 3) := dk_182 1 51 (dk_at dksX7_met_1 11 rfl rfl)
theorem dX7_met_37 : decode cX7_met 37 = .ok (.ireturn, 1) := dk_172 (dk_at dksX7_met_1 14 rfl rfl)
theorem dX7_met_38 : decode cX7_met 38 = .ok (.aload_n 0, 1) := dk_42 (dk_at dksX7_met_1 15 rfl rfl)
theorem dX7_met_39 : decode cX7_met 39 = .ok (.iload_n 1, 1) := dk_27 (dk_at dksX7_met_1 16 rfl rfl)
theorem dX7_met_40 : decode cX7_met 40 = .ok (.iload_n 2, 1) := dk_28 (dk_at dksX7_met_1 17 rfl rfl)
theorem dX7_met_41 : decode cX7_met 41 = .ok (.invokevirtual 346, 3) := dk_182 1 90 (dk_at dksX7_met_1 18 rfl rfl)
theorem dX7_met_44 : decode cX7_met 44 = .ok (.ldc_w 310, 3) := dk_19 1 54 (dk_at dksX7_met_1 21 rfl rfl)
theorem dX7_met_47 : decode cX7_met 47 = .ok (.if_icmp .ne 7, 3) := dk_160 0 7 (dk_at dksX7_met_2 0 rfl rfl)
theorem dX7_met_50 : decode cX7_met 50 = .ok (.iconst (-1), 1) := dk_2 (dk_at dksX7_met_2 3 rfl rfl)
theorem dX7_met_51 : decode cX7_met 51 = .ok (.goto 14, 3) := dk_167 0 14 (dk_at dksX7_met_2 4 rfl rfl)
theorem dX7_met_54 : decode cX7_met 54 = .ok (.aload_n 0, 1) := dk_42 (dk_at dksX7_met_2 7 rfl rfl)
theorem dX7_met_55 : decode cX7_met 55 = .ok (.getfield 321, 3) := dk_180 1 65 (dk_at dksX7_met_2 8 rfl rfl)
theorem dX7_met_58 : decode cX7_met 58 = .ok (.aload_n 0, 1) := dk_42 (dk_at dksX7_met_2 11 rfl rfl)
theorem dX7_met_59 : decode cX7_met 59 = .ok (.iload_n 1, 1) := dk_27 (dk_at dksX7_met_2 12 rfl rfl)
theorem dX7_met_60 : decode cX7_met 60 = .ok (.iload_n 2, 1) := dk_28 (dk_at dksX7_met_2 13 rfl rfl)
theorem dX7_met_61 : decode cX7_met 61 = .ok (.invokevirtual 346, 3) := dk_182 1 90 (dk_at dksX7_met_2 14 rfl rfl)
theorem dX7_met_64 : decode cX7_met 64 = .ok (.isub, 1) := dk_100 (dk_at dksX7_met_2 17 rfl rfl)
theorem dX7_met_65 : decode cX7_met 65 = .ok (.ireturn, 1) := dk_172 (dk_at dksX7_met_2 18 rfl rfl)
abbrev cX7_knows : ByteArray := prog_21_method_63_code
def yX7_knows : MethodName := ⟨RX7, "knows", "(II)Z"⟩
def dkwX7_knows_1 : List UInt8 := [182, 1, 93, 167, 0, 8, 42, 4, 182, 1, 142, 172]
abbrev dktX7_knows_1 : List UInt8 := dkwX7_knows_1 ++ []
def dkwX7_knows_0 : List UInt8 := [42, 3, 181, 0, 159, 42, 27, 182, 1, 133, 153, 0, 20, 42, 28, 182, 1, 133, 153, 0, 12, 42, 27, 28]
abbrev dktX7_knows_0 : List UInt8 := dkwX7_knows_0 ++ dktX7_knows_1
theorem dksX7_knows_0 : cX7_knows.data.toList.drop 0 = dktX7_knows_0 := by decide +kernel
theorem dksX7_knows_1 : cX7_knows.data.toList.drop 24 = dktX7_knows_1 := dk_seg dksX7_knows_0 24 rfl rfl
theorem dX7_knows_0 : decode cX7_knows 0 = .ok (.aload_n 0, 1) := dk_42 (dk_at dksX7_knows_0 0 rfl rfl)
theorem dX7_knows_1 : decode cX7_knows 1 = .ok (.iconst 0, 1) := dk_3 (dk_at dksX7_knows_0 1 rfl rfl)
theorem dX7_knows_2 : decode cX7_knows 2 = .ok (.putfield 159, 3) := dk_181 0 159 (dk_at dksX7_knows_0 2 rfl rfl)
theorem dX7_knows_5 : decode cX7_knows 5 = .ok (.aload_n 0, 1) := dk_42 (dk_at dksX7_knows_0 5 rfl rfl)
theorem dX7_knows_6 : decode cX7_knows 6 = .ok (.iload_n 1, 1) := dk_27 (dk_at dksX7_knows_0 6 rfl rfl)
theorem dX7_knows_7 : decode cX7_knows 7 = .ok (.invokevirtual 389, 3) := dk_182 1 133 (dk_at dksX7_knows_0 7 rfl rfl)
theorem dX7_knows_10 : decode cX7_knows 10 = .ok (.ifCond .eq 20, 3) := dk_153 0 20 (dk_at dksX7_knows_0 10 rfl rfl)
theorem dX7_knows_13 : decode cX7_knows 13 = .ok (.aload_n 0, 1) := dk_42 (dk_at dksX7_knows_0 13 rfl rfl)
theorem dX7_knows_14 : decode cX7_knows 14 = .ok (.iload_n 2, 1) := dk_28 (dk_at dksX7_knows_0 14 rfl rfl)
theorem dX7_knows_15 : decode cX7_knows 15 = .ok (.invokevirtual 389, 3) := dk_182 1 133 (dk_at dksX7_knows_0 15 rfl rfl)
theorem dX7_knows_18 : decode cX7_knows 18 = .ok (.ifCond .eq 12, 3) := dk_153 0 12 (dk_at dksX7_knows_0 18 rfl rfl)
theorem dX7_knows_21 : decode cX7_knows 21 = .ok (.aload_n 0, 1) := dk_42 (dk_at dksX7_knows_0 21 rfl rfl)
theorem dX7_knows_22 : decode cX7_knows 22 = .ok (.iload_n 1, 1) := dk_27 (dk_at dksX7_knows_0 22 rfl rfl)
theorem dX7_knows_23 : decode cX7_knows 23 = .ok (.iload_n 2, 1) := dk_28 (dk_at dksX7_knows_0 23 rfl rfl)
theorem dX7_knows_24 : decode cX7_knows 24 = .ok (.invokevirtual 349, 3) := dk_182 1 93 (dk_at dksX7_knows_1 0 rfl rfl)
theorem dX7_knows_27 : decode cX7_knows 27 = .ok (.goto 8, 3) := dk_167 0 8 (dk_at dksX7_knows_1 3 rfl rfl)
theorem dX7_knows_30 : decode cX7_knows 30 = .ok (.aload_n 0, 1) := dk_42 (dk_at dksX7_knows_1 6 rfl rfl)
theorem dX7_knows_31 : decode cX7_knows 31 = .ok (.iconst 1, 1) := dk_4 (dk_at dksX7_knows_1 7 rfl rfl)
theorem dX7_knows_32 : decode cX7_knows 32 = .ok (.invokevirtual 398, 3) := dk_182 1 142 (dk_at dksX7_knows_1 8 rfl rfl)
theorem dX7_knows_35 : decode cX7_knows 35 = .ok (.ireturn, 1) := dk_172 (dk_at dksX7_knows_1 11 rfl rfl)
abbrev cX7_failing : ByteArray := prog_21_method_4_code
def yX7_failing : MethodName := ⟨RX7, "failing", "(I)Z"⟩
def dkwX7_failing_0 : List UInt8 := [42, 27, 181, 0, 159, 3, 172]
abbrev dktX7_failing_0 : List UInt8 := dkwX7_failing_0 ++ []
theorem dksX7_failing_0 : cX7_failing.data.toList.drop 0 = dktX7_failing_0 := by decide +kernel
theorem dX7_failing_0 : decode cX7_failing 0 = .ok (.aload_n 0, 1) := dk_42 (dk_at dksX7_failing_0 0 rfl rfl)
theorem dX7_failing_1 : decode cX7_failing 1 = .ok (.iload_n 1, 1) := dk_27 (dk_at dksX7_failing_0 1 rfl rfl)
theorem dX7_failing_2 : decode cX7_failing 2 = .ok (.putfield 159, 3) := dk_181 0 159 (dk_at dksX7_failing_0 2 rfl rfl)
theorem dX7_failing_5 : decode cX7_failing 5 = .ok (.iconst 0, 1) := dk_3 (dk_at dksX7_failing_0 5 rfl rfl)
theorem dX7_failing_6 : decode cX7_failing 6 = .ok (.ireturn, 1) := dk_172 (dk_at dksX7_failing_0 6 rfl rfl)
abbrev cX7_may : ByteArray := prog_21_method_64_code
def yX7_may : MethodName := ⟨RX7, "may", "(II)I"⟩
def dkwX7_may_1 : List UInt8 := [182, 1, 105, 167, 0, 8, 42, 4, 182, 1, 51, 172]
abbrev dktX7_may_1 : List UInt8 := dkwX7_may_1 ++ []
def dkwX7_may_0 : List UInt8 := [42, 3, 181, 0, 159, 42, 27, 182, 1, 133, 153, 0, 20, 42, 28, 182, 1, 136, 153, 0, 12, 42, 27, 28]
abbrev dktX7_may_0 : List UInt8 := dkwX7_may_0 ++ dktX7_may_1
theorem dksX7_may_0 : cX7_may.data.toList.drop 0 = dktX7_may_0 := by decide +kernel
theorem dksX7_may_1 : cX7_may.data.toList.drop 24 = dktX7_may_1 := dk_seg dksX7_may_0 24 rfl rfl
theorem dX7_may_0 : decode cX7_may 0 = .ok (.aload_n 0, 1) := dk_42 (dk_at dksX7_may_0 0 rfl rfl)
theorem dX7_may_1 : decode cX7_may 1 = .ok (.iconst 0, 1) := dk_3 (dk_at dksX7_may_0 1 rfl rfl)
theorem dX7_may_2 : decode cX7_may 2 = .ok (.putfield 159, 3) := dk_181 0 159 (dk_at dksX7_may_0 2 rfl rfl)
theorem dX7_may_5 : decode cX7_may 5 = .ok (.aload_n 0, 1) := dk_42 (dk_at dksX7_may_0 5 rfl rfl)
theorem dX7_may_6 : decode cX7_may 6 = .ok (.iload_n 1, 1) := dk_27 (dk_at dksX7_may_0 6 rfl rfl)
theorem dX7_may_7 : decode cX7_may 7 = .ok (.invokevirtual 389, 3) := dk_182 1 133 (dk_at dksX7_may_0 7 rfl rfl)
theorem dX7_may_10 : decode cX7_may 10 = .ok (.ifCond .eq 20, 3) := dk_153 0 20 (dk_at dksX7_may_0 10 rfl rfl)
theorem dX7_may_13 : decode cX7_may 13 = .ok (.aload_n 0, 1) := dk_42 (dk_at dksX7_may_0 13 rfl rfl)
theorem dX7_may_14 : decode cX7_may 14 = .ok (.iload_n 2, 1) := dk_28 (dk_at dksX7_may_0 14 rfl rfl)
theorem dX7_may_15 : decode cX7_may 15 = .ok (.invokevirtual 392, 3) := dk_182 1 136 (dk_at dksX7_may_0 15 rfl rfl)
theorem dX7_may_18 : decode cX7_may 18 = .ok (.ifCond .eq 12, 3) := dk_153 0 12 (dk_at dksX7_may_0 18 rfl rfl)
theorem dX7_may_21 : decode cX7_may 21 = .ok (.aload_n 0, 1) := dk_42 (dk_at dksX7_may_0 21 rfl rfl)
theorem dX7_may_22 : decode cX7_may 22 = .ok (.iload_n 1, 1) := dk_27 (dk_at dksX7_may_0 22 rfl rfl)
theorem dX7_may_23 : decode cX7_may 23 = .ok (.iload_n 2, 1) := dk_28 (dk_at dksX7_may_0 23 rfl rfl)
theorem dX7_may_24 : decode cX7_may 24 = .ok (.invokevirtual 361, 3) := dk_182 1 105 (dk_at dksX7_may_1 0 rfl rfl)
theorem dX7_may_27 : decode cX7_may 27 = .ok (.goto 8, 3) := dk_167 0 8 (dk_at dksX7_may_1 3 rfl rfl)
theorem dX7_may_30 : decode cX7_may 30 = .ok (.aload_n 0, 1) := dk_42 (dk_at dksX7_may_1 6 rfl rfl)
theorem dX7_may_31 : decode cX7_may 31 = .ok (.iconst 1, 1) := dk_4 (dk_at dksX7_may_1 7 rfl rfl)
theorem dX7_may_32 : decode cX7_may 32 = .ok (.invokevirtual 307, 3) := dk_182 1 51 (dk_at dksX7_may_1 8 rfl rfl)
theorem dX7_may_35 : decode cX7_may 35 = .ok (.ireturn, 1) := dk_172 (dk_at dksX7_may_1 11 rfl rfl)
abbrev cX7_slice : ByteArray := prog_21_method_65_code
def yX7_slice : MethodName := ⟨RX7, "slice", "(III)I"⟩
def dkwX7_slice_3 : List UInt8 := [172]
abbrev dktX7_slice_3 : List UInt8 := dkwX7_slice_3 ++ []
def dkwX7_slice_2 : List UInt8 := [42, 27, 28, 182, 1, 147, 29, 2, 160, 0, 10, 42, 180, 1, 127, 167, 0, 9, 42, 180, 0, 102, 29, 46]
abbrev dktX7_slice_2 : List UInt8 := dkwX7_slice_2 ++ dktX7_slice_3
def dkwX7_slice_1 : List UInt8 := [20, 1, 145, 42, 180, 0, 61, 28, 46, 4, 100, 133, 184, 0, 162, 154, 0, 9, 42, 4, 182, 1, 51, 172]
abbrev dktX7_slice_1 : List UInt8 := dkwX7_slice_1 ++ dktX7_slice_2
def dkwX7_slice_0 : List UInt8 := [42, 3, 181, 0, 159, 42, 27, 182, 1, 133, 153, 0, 31, 42, 28, 182, 1, 136, 153, 0, 23, 29, 133]
abbrev dktX7_slice_0 : List UInt8 := dkwX7_slice_0 ++ dktX7_slice_1
theorem dksX7_slice_0 : cX7_slice.data.toList.drop 0 = dktX7_slice_0 := by decide +kernel
theorem dksX7_slice_1 : cX7_slice.data.toList.drop 23 = dktX7_slice_1 := dk_seg dksX7_slice_0 23 rfl rfl
theorem dksX7_slice_2 : cX7_slice.data.toList.drop 47 = dktX7_slice_2 := dk_seg dksX7_slice_1 24 rfl rfl
theorem dksX7_slice_3 : cX7_slice.data.toList.drop 71 = dktX7_slice_3 := dk_seg dksX7_slice_2 24 rfl rfl
theorem dX7_slice_0 : decode cX7_slice 0 = .ok (.aload_n 0, 1) := dk_42 (dk_at dksX7_slice_0 0 rfl rfl)
theorem dX7_slice_1 : decode cX7_slice 1 = .ok (.iconst 0, 1) := dk_3 (dk_at dksX7_slice_0 1 rfl rfl)
theorem dX7_slice_2 : decode cX7_slice 2 = .ok (.putfield 159, 3) := dk_181 0 159 (dk_at dksX7_slice_0 2 rfl rfl)
theorem dX7_slice_5 : decode cX7_slice 5 = .ok (.aload_n 0, 1) := dk_42 (dk_at dksX7_slice_0 5 rfl rfl)
theorem dX7_slice_6 : decode cX7_slice 6 = .ok (.iload_n 1, 1) := dk_27 (dk_at dksX7_slice_0 6 rfl rfl)
theorem dX7_slice_7 : decode cX7_slice 7 = .ok (.invokevirtual 389, 3) := dk_182 1 133 (dk_at dksX7_slice_0 7 rfl rfl)
theorem dX7_slice_10 : decode cX7_slice 10 = .ok (.ifCond .eq 31, 3) := dk_153 0 31 (dk_at dksX7_slice_0 10 rfl rfl)
theorem dX7_slice_13 : decode cX7_slice 13 = .ok (.aload_n 0, 1) := dk_42 (dk_at dksX7_slice_0 13 rfl rfl)
theorem dX7_slice_14 : decode cX7_slice 14 = .ok (.iload_n 2, 1) := dk_28 (dk_at dksX7_slice_0 14 rfl rfl)
theorem dX7_slice_15 : decode cX7_slice 15 = .ok (.invokevirtual 392, 3) := dk_182 1 136 (dk_at dksX7_slice_0 15 rfl rfl)
theorem dX7_slice_18 : decode cX7_slice 18 = .ok (.ifCond .eq 23, 3) := dk_153 0 23 (dk_at dksX7_slice_0 18 rfl rfl)
theorem dX7_slice_21 : decode cX7_slice 21 = .ok (.iload_n 3, 1) := dk_29 (dk_at dksX7_slice_0 21 rfl rfl)
theorem dX7_slice_22 : decode cX7_slice 22 = .ok (.i2l, 1) := dk_133 (dk_at dksX7_slice_0 22 rfl rfl)
theorem dX7_slice_23 : decode cX7_slice 23 = .ok (.ldc2_w 401, 3) := dk_20 1 145 (dk_at dksX7_slice_1 0 rfl rfl)
theorem dX7_slice_26 : decode cX7_slice 26 = .ok (.aload_n 0, 1) := dk_42 (dk_at dksX7_slice_1 3 rfl rfl)
theorem dX7_slice_27 : decode cX7_slice 27 = .ok (.getfield 61, 3) := dk_180 0 61 (dk_at dksX7_slice_1 4 rfl rfl)
theorem dX7_slice_30 : decode cX7_slice 30 = .ok (.iload_n 2, 1) := dk_28 (dk_at dksX7_slice_1 7 rfl rfl)
theorem dX7_slice_31 : decode cX7_slice 31 = .ok (.iaload, 1) := dk_46 (dk_at dksX7_slice_1 8 rfl rfl)
theorem dX7_slice_32 : decode cX7_slice 32 = .ok (.iconst 1, 1) := dk_4 (dk_at dksX7_slice_1 9 rfl rfl)
theorem dX7_slice_33 : decode cX7_slice 33 = .ok (.isub, 1) := dk_100 (dk_at dksX7_slice_1 10 rfl rfl)
theorem dX7_slice_34 : decode cX7_slice 34 = .ok (.i2l, 1) := dk_133 (dk_at dksX7_slice_1 11 rfl rfl)
theorem dX7_slice_35 : decode cX7_slice 35 = .ok (.invokestatic 162, 3) := dk_184 0 162 (dk_at dksX7_slice_1 12 rfl rfl)
theorem dX7_slice_38 : decode cX7_slice 38 = .ok (.ifCond .ne 9, 3) := dk_154 0 9 (dk_at dksX7_slice_1 15 rfl rfl)
theorem dX7_slice_41 : decode cX7_slice 41 = .ok (.aload_n 0, 1) := dk_42 (dk_at dksX7_slice_1 18 rfl rfl)
theorem dX7_slice_42 : decode cX7_slice 42 = .ok (.iconst 1, 1) := dk_4 (dk_at dksX7_slice_1 19 rfl rfl)
theorem dX7_slice_43 : decode cX7_slice 43 = .ok (.invokevirtual 307, 3) := dk_182 1 51 (dk_at dksX7_slice_1 20 rfl rfl)
theorem dX7_slice_46 : decode cX7_slice 46 = .ok (.ireturn, 1) := dk_172 (dk_at dksX7_slice_1 23 rfl rfl)
theorem dX7_slice_47 : decode cX7_slice 47 = .ok (.aload_n 0, 1) := dk_42 (dk_at dksX7_slice_2 0 rfl rfl)
theorem dX7_slice_48 : decode cX7_slice 48 = .ok (.iload_n 1, 1) := dk_27 (dk_at dksX7_slice_2 1 rfl rfl)
theorem dX7_slice_49 : decode cX7_slice 49 = .ok (.iload_n 2, 1) := dk_28 (dk_at dksX7_slice_2 2 rfl rfl)
theorem dX7_slice_50 : decode cX7_slice 50 = .ok (.invokevirtual 403, 3) := dk_182 1 147 (dk_at dksX7_slice_2 3 rfl rfl)
theorem dX7_slice_53 : decode cX7_slice 53 = .ok (.iload_n 3, 1) := dk_29 (dk_at dksX7_slice_2 6 rfl rfl)
theorem dX7_slice_54 : decode cX7_slice 54 = .ok (.iconst (-1), 1) := dk_2 (dk_at dksX7_slice_2 7 rfl rfl)
theorem dX7_slice_55 : decode cX7_slice 55 = .ok (.if_icmp .ne 10, 3) := dk_160 0 10 (dk_at dksX7_slice_2 8 rfl rfl)
theorem dX7_slice_58 : decode cX7_slice 58 = .ok (.aload_n 0, 1) := dk_42 (dk_at dksX7_slice_2 11 rfl rfl)
theorem dX7_slice_59 : decode cX7_slice 59 = .ok (.getfield 383, 3) := dk_180 1 127 (dk_at dksX7_slice_2 12 rfl rfl)
theorem dX7_slice_62 : decode cX7_slice 62 = .ok (.goto 9, 3) := dk_167 0 9 (dk_at dksX7_slice_2 15 rfl rfl)
theorem dX7_slice_65 : decode cX7_slice 65 = .ok (.aload_n 0, 1) := dk_42 (dk_at dksX7_slice_2 18 rfl rfl)
theorem dX7_slice_66 : decode cX7_slice 66 = .ok (.getfield 102, 3) := dk_180 0 102 (dk_at dksX7_slice_2 19 rfl rfl)
theorem dX7_slice_69 : decode cX7_slice 69 = .ok (.iload_n 3, 1) := dk_29 (dk_at dksX7_slice_2 22 rfl rfl)
theorem dX7_slice_70 : decode cX7_slice 70 = .ok (.iaload, 1) := dk_46 (dk_at dksX7_slice_2 23 rfl rfl)
theorem dX7_slice_71 : decode cX7_slice 71 = .ok (.ireturn, 1) := dk_172 (dk_at dksX7_slice_3 0 rfl rfl)
abbrev cX7_tellSlices : ByteArray := prog_21_method_56_code
def yX7_tellSlices : MethodName := ⟨RX7, "tellSlices", "(II)V"⟩
def dkwX7_tellSlices_10 : List UInt8 := [54, 4, 42, 180, 0, 102, 21, 5, 42, 180, 0, 97, 21, 6, 46, 79, 132, 5, 255, 167, 255, 133, 177]
abbrev dktX7_tellSlices_10 : List UInt8 := dkwX7_tellSlices_10 ++ []
def dkwX7_tellSlices_9 : List UInt8 := [21, 6, 46, 164, 0, 7, 21, 7, 54, 6, 132, 7, 1, 167, 255, 207, 21, 4, 4, 21, 6, 120, 128]
abbrev dktX7_tellSlices_9 : List UInt8 := dkwX7_tellSlices_9 ++ dktX7_tellSlices_10
def dkwX7_tellSlices_8 : List UInt8 := [184, 1, 22, 154, 0, 30, 21, 6, 2, 159, 0, 20, 42, 180, 0, 97, 21, 7, 46, 42, 180, 0, 97]
abbrev dktX7_tellSlices_8 : List UInt8 := dkwX7_tellSlices_8 ++ dktX7_tellSlices_9
def dkwX7_tellSlices_7 : List UInt8 := [79, 167, 0, 84, 2, 54, 6, 3, 54, 7, 21, 7, 42, 180, 1, 115, 162, 0, 46, 21, 4, 21, 7]
abbrev dktX7_tellSlices_7 : List UInt8 := dkwX7_tellSlices_7 ++ dktX7_tellSlices_8
def dkwX7_tellSlices_6 : List UInt8 := [46, 21, 5, 159, 0, 25, 42, 180, 0, 102, 21, 5, 42, 180, 0, 102, 42, 180, 0, 99, 21, 5, 46, 46]
abbrev dktX7_tellSlices_6 : List UInt8 := dkwX7_tellSlices_6 ++ dktX7_tellSlices_7
def dkwX7_tellSlices_5 : List UInt8 := [3, 54, 4, 42, 180, 0, 61, 28, 46, 4, 100, 54, 5, 21, 5, 155, 0, 124, 42, 180, 0, 99, 21, 5]
abbrev dktX7_tellSlices_5 : List UInt8 := dkwX7_tellSlices_5 ++ dktX7_tellSlices_6
def dkwX7_tellSlices_4 : List UInt8 := [108, 79, 42, 89, 180, 1, 127, 42, 180, 0, 97, 21, 4, 46, 100, 181, 1, 127, 132, 4, 1, 167, 255, 205]
abbrev dktX7_tellSlices_4 : List UInt8 := dkwX7_tellSlices_4 ++ dktX7_tellSlices_5
def dkwX7_tellSlices_3 : List UInt8 := [162, 0, 48, 42, 180, 0, 97, 21, 4, 42, 180, 0, 52, 28, 46, 42, 180, 0, 97, 21, 4, 46, 104, 29]
abbrev dktX7_tellSlices_3 : List UInt8 := dkwX7_tellSlices_3 ++ dktX7_tellSlices_4
def dkwX7_tellSlices_2 : List UInt8 := [167, 255, 219, 42, 42, 180, 0, 52, 28, 46, 181, 1, 127, 3, 54, 4, 21, 4, 42, 180, 1, 115]
abbrev dktX7_tellSlices_2 : List UInt8 := dkwX7_tellSlices_2 ++ dktX7_tellSlices_3
def dkwX7_tellSlices_1 : List UInt8 := [21, 4, 42, 27, 28, 21, 4, 182, 1, 124, 79, 29, 42, 180, 0, 97, 21, 4, 46, 96, 62, 132, 4, 1]
abbrev dktX7_tellSlices_1 : List UInt8 := dkwX7_tellSlices_1 ++ dktX7_tellSlices_2
def dkwX7_tellSlices_0 : List UInt8 := [42, 28, 182, 1, 121, 3, 62, 3, 54, 4, 21, 4, 42, 180, 1, 115, 162, 0, 34, 42, 180, 0, 97]
abbrev dktX7_tellSlices_0 : List UInt8 := dkwX7_tellSlices_0 ++ dktX7_tellSlices_1
theorem dksX7_tellSlices_0 : cX7_tellSlices.data.toList.drop 0 = dktX7_tellSlices_0 := by decide +kernel
theorem dksX7_tellSlices_1 : cX7_tellSlices.data.toList.drop 23 = dktX7_tellSlices_1 := dk_seg dksX7_tellSlices_0 23 rfl rfl
theorem dksX7_tellSlices_2 : cX7_tellSlices.data.toList.drop 47 = dktX7_tellSlices_2 := dk_seg dksX7_tellSlices_1 24 rfl rfl
theorem dksX7_tellSlices_3 : cX7_tellSlices.data.toList.drop 69 = dktX7_tellSlices_3 := dk_seg dksX7_tellSlices_2 22 rfl rfl
theorem dksX7_tellSlices_4 : cX7_tellSlices.data.toList.drop 93 = dktX7_tellSlices_4 := dk_seg dksX7_tellSlices_3 24 rfl rfl
theorem dksX7_tellSlices_5 : cX7_tellSlices.data.toList.drop 117 = dktX7_tellSlices_5 := dk_seg dksX7_tellSlices_4 24 rfl rfl
theorem dksX7_tellSlices_6 : cX7_tellSlices.data.toList.drop 141 = dktX7_tellSlices_6 := dk_seg dksX7_tellSlices_5 24 rfl rfl
theorem dksX7_tellSlices_7 : cX7_tellSlices.data.toList.drop 165 = dktX7_tellSlices_7 := dk_seg dksX7_tellSlices_6 24 rfl rfl
theorem dksX7_tellSlices_8 : cX7_tellSlices.data.toList.drop 188 = dktX7_tellSlices_8 := dk_seg dksX7_tellSlices_7 23 rfl rfl
theorem dksX7_tellSlices_9 : cX7_tellSlices.data.toList.drop 211 = dktX7_tellSlices_9 := dk_seg dksX7_tellSlices_8 23 rfl rfl
theorem dksX7_tellSlices_10 : cX7_tellSlices.data.toList.drop 234 = dktX7_tellSlices_10 := dk_seg dksX7_tellSlices_9 23 rfl rfl
theorem dX7_tellSlices_0 : decode cX7_tellSlices 0 = .ok (.aload_n 0, 1) := dk_42 (dk_at dksX7_tellSlices_0 0 rfl rfl)
theorem dX7_tellSlices_1 : decode cX7_tellSlices 1 = .ok (.iload_n 2, 1) := dk_28 (dk_at dksX7_tellSlices_0 1 rfl rfl)
theorem dX7_tellSlices_2 : decode cX7_tellSlices 2 = .ok (.invokevirtual 377, 3) := dk_182 1 121 (dk_at dksX7_tellSlices_0 2 rfl rfl)
theorem dX7_tellSlices_5 : decode cX7_tellSlices 5 = .ok (.iconst 0, 1) := dk_3 (dk_at dksX7_tellSlices_0 5 rfl rfl)
theorem dX7_tellSlices_6 : decode cX7_tellSlices 6 = .ok (.istore_n 3, 1) := dk_62 (dk_at dksX7_tellSlices_0 6 rfl rfl)
theorem dX7_tellSlices_7 : decode cX7_tellSlices 7 = .ok (.iconst 0, 1) := dk_3 (dk_at dksX7_tellSlices_0 7 rfl rfl)
theorem dX7_tellSlices_8 : decode cX7_tellSlices 8 = .ok (.istore 4, 2) := dk_54 4 (dk_at dksX7_tellSlices_0 8 rfl rfl)
theorem dX7_tellSlices_10 : decode cX7_tellSlices 10 = .ok (.iload 4, 2) := dk_21 4 (dk_at dksX7_tellSlices_0 10 rfl rfl)
theorem dX7_tellSlices_12 : decode cX7_tellSlices 12 = .ok (.aload_n 0, 1) := dk_42 (dk_at dksX7_tellSlices_0 12 rfl rfl)
theorem dX7_tellSlices_13 : decode cX7_tellSlices 13 = .ok (.getfield 371, 3) := dk_180 1 115 (dk_at dksX7_tellSlices_0 13 rfl rfl)
theorem dX7_tellSlices_16 : decode cX7_tellSlices 16 = .ok (.if_icmp .ge 34, 3) := dk_162 0 34 (dk_at dksX7_tellSlices_0 16 rfl rfl)
theorem dX7_tellSlices_19 : decode cX7_tellSlices 19 = .ok (.aload_n 0, 1) := dk_42 (dk_at dksX7_tellSlices_0 19 rfl rfl)
theorem dX7_tellSlices_20 : decode cX7_tellSlices 20 = .ok (.getfield 97, 3) := dk_180 0 97 (dk_at dksX7_tellSlices_0 20 rfl rfl)
theorem dX7_tellSlices_23 : decode cX7_tellSlices 23 = .ok (.iload 4, 2) := dk_21 4 (dk_at dksX7_tellSlices_1 0 rfl rfl)
theorem dX7_tellSlices_25 : decode cX7_tellSlices 25 = .ok (.aload_n 0, 1) := dk_42 (dk_at dksX7_tellSlices_1 2 rfl rfl)
theorem dX7_tellSlices_26 : decode cX7_tellSlices 26 = .ok (.iload_n 1, 1) := dk_27 (dk_at dksX7_tellSlices_1 3 rfl rfl)
theorem dX7_tellSlices_27 : decode cX7_tellSlices 27 = .ok (.iload_n 2, 1) := dk_28 (dk_at dksX7_tellSlices_1 4 rfl rfl)
theorem dX7_tellSlices_28 : decode cX7_tellSlices 28 = .ok (.iload 4, 2) := dk_21 4 (dk_at dksX7_tellSlices_1 5 rfl rfl)
theorem dX7_tellSlices_30 : decode cX7_tellSlices 30 = .ok (.invokevirtual 380, 3) := dk_182 1 124 (dk_at dksX7_tellSlices_1 7 rfl rfl)
theorem dX7_tellSlices_33 : decode cX7_tellSlices 33 = .ok (.iastore, 1) := dk_79 (dk_at dksX7_tellSlices_1 10 rfl rfl)
theorem dX7_tellSlices_34 : decode cX7_tellSlices 34 = .ok (.iload_n 3, 1) := dk_29 (dk_at dksX7_tellSlices_1 11 rfl rfl)
theorem dX7_tellSlices_35 : decode cX7_tellSlices 35 = .ok (.aload_n 0, 1) := dk_42 (dk_at dksX7_tellSlices_1 12 rfl rfl)
theorem dX7_tellSlices_36 : decode cX7_tellSlices 36 = .ok (.getfield 97, 3) := dk_180 0 97 (dk_at dksX7_tellSlices_1 13 rfl rfl)
theorem dX7_tellSlices_39 : decode cX7_tellSlices 39 = .ok (.iload 4, 2) := dk_21 4 (dk_at dksX7_tellSlices_1 16 rfl rfl)
theorem dX7_tellSlices_41 : decode cX7_tellSlices 41 = .ok (.iaload, 1) := dk_46 (dk_at dksX7_tellSlices_1 18 rfl rfl)
theorem dX7_tellSlices_42 : decode cX7_tellSlices 42 = .ok (.iadd, 1) := dk_96 (dk_at dksX7_tellSlices_1 19 rfl rfl)
theorem dX7_tellSlices_43 : decode cX7_tellSlices 43 = .ok (.istore_n 3, 1) := dk_62 (dk_at dksX7_tellSlices_1 20 rfl rfl)
theorem dX7_tellSlices_44 : decode cX7_tellSlices 44 = .ok (.iinc 4 1, 3) := dk_132 4 1 (dk_at dksX7_tellSlices_1 21 rfl rfl)
theorem dX7_tellSlices_47 : decode cX7_tellSlices 47 = .ok (.goto (-37), 3) := dk_167 255 219 (dk_at dksX7_tellSlices_2 0 rfl rfl)
theorem dX7_tellSlices_50 : decode cX7_tellSlices 50 = .ok (.aload_n 0, 1) := dk_42 (dk_at dksX7_tellSlices_2 3 rfl rfl)
theorem dX7_tellSlices_51 : decode cX7_tellSlices 51 = .ok (.aload_n 0, 1) := dk_42 (dk_at dksX7_tellSlices_2 4 rfl rfl)
theorem dX7_tellSlices_52 : decode cX7_tellSlices 52 = .ok (.getfield 52, 3) := dk_180 0 52 (dk_at dksX7_tellSlices_2 5 rfl rfl)
theorem dX7_tellSlices_55 : decode cX7_tellSlices 55 = .ok (.iload_n 2, 1) := dk_28 (dk_at dksX7_tellSlices_2 8 rfl rfl)
theorem dX7_tellSlices_56 : decode cX7_tellSlices 56 = .ok (.iaload, 1) := dk_46 (dk_at dksX7_tellSlices_2 9 rfl rfl)
theorem dX7_tellSlices_57 : decode cX7_tellSlices 57 = .ok (.putfield 383, 3) := dk_181 1 127 (dk_at dksX7_tellSlices_2 10 rfl rfl)
theorem dX7_tellSlices_60 : decode cX7_tellSlices 60 = .ok (.iconst 0, 1) := dk_3 (dk_at dksX7_tellSlices_2 13 rfl rfl)
theorem dX7_tellSlices_61 : decode cX7_tellSlices 61 = .ok (.istore 4, 2) := dk_54 4 (dk_at dksX7_tellSlices_2 14 rfl rfl)
theorem dX7_tellSlices_63 : decode cX7_tellSlices 63 = .ok (.iload 4, 2) := dk_21 4 (dk_at dksX7_tellSlices_2 16 rfl rfl)
theorem dX7_tellSlices_65 : decode cX7_tellSlices 65 = .ok (.aload_n 0, 1) := dk_42 (dk_at dksX7_tellSlices_2 18 rfl rfl)
theorem dX7_tellSlices_66 : decode cX7_tellSlices 66 = .ok (.getfield 371, 3) := dk_180 1 115 (dk_at dksX7_tellSlices_2 19 rfl rfl)
theorem dX7_tellSlices_69 : decode cX7_tellSlices 69 = .ok (.if_icmp .ge 48, 3) := dk_162 0 48 (dk_at dksX7_tellSlices_3 0 rfl rfl)
theorem dX7_tellSlices_72 : decode cX7_tellSlices 72 = .ok (.aload_n 0, 1) := dk_42 (dk_at dksX7_tellSlices_3 3 rfl rfl)
theorem dX7_tellSlices_73 : decode cX7_tellSlices 73 = .ok (.getfield 97, 3) := dk_180 0 97 (dk_at dksX7_tellSlices_3 4 rfl rfl)
theorem dX7_tellSlices_76 : decode cX7_tellSlices 76 = .ok (.iload 4, 2) := dk_21 4 (dk_at dksX7_tellSlices_3 7 rfl rfl)
theorem dX7_tellSlices_78 : decode cX7_tellSlices 78 = .ok (.aload_n 0, 1) := dk_42 (dk_at dksX7_tellSlices_3 9 rfl rfl)
theorem dX7_tellSlices_79 : decode cX7_tellSlices 79 = .ok (.getfield 52, 3) := dk_180 0 52 (dk_at dksX7_tellSlices_3 10 rfl rfl)
theorem dX7_tellSlices_82 : decode cX7_tellSlices 82 = .ok (.iload_n 2, 1) := dk_28 (dk_at dksX7_tellSlices_3 13 rfl rfl)
theorem dX7_tellSlices_83 : decode cX7_tellSlices 83 = .ok (.iaload, 1) := dk_46 (dk_at dksX7_tellSlices_3 14 rfl rfl)
theorem dX7_tellSlices_84 : decode cX7_tellSlices 84 = .ok (.aload_n 0, 1) := dk_42 (dk_at dksX7_tellSlices_3 15 rfl rfl)
theorem dX7_tellSlices_85 : decode cX7_tellSlices 85 = .ok (.getfield 97, 3) := dk_180 0 97 (dk_at dksX7_tellSlices_3 16 rfl rfl)
theorem dX7_tellSlices_88 : decode cX7_tellSlices 88 = .ok (.iload 4, 2) := dk_21 4 (dk_at dksX7_tellSlices_3 19 rfl rfl)
theorem dX7_tellSlices_90 : decode cX7_tellSlices 90 = .ok (.iaload, 1) := dk_46 (dk_at dksX7_tellSlices_3 21 rfl rfl)
theorem dX7_tellSlices_91 : decode cX7_tellSlices 91 = .ok (.imul, 1) := dk_104 (dk_at dksX7_tellSlices_3 22 rfl rfl)
theorem dX7_tellSlices_92 : decode cX7_tellSlices 92 = .ok (.iload_n 3, 1) := dk_29 (dk_at dksX7_tellSlices_3 23 rfl rfl)
theorem dX7_tellSlices_93 : decode cX7_tellSlices 93 = .ok (.idiv, 1) := dk_108 (dk_at dksX7_tellSlices_4 0 rfl rfl)
theorem dX7_tellSlices_94 : decode cX7_tellSlices 94 = .ok (.iastore, 1) := dk_79 (dk_at dksX7_tellSlices_4 1 rfl rfl)
theorem dX7_tellSlices_95 : decode cX7_tellSlices 95 = .ok (.aload_n 0, 1) := dk_42 (dk_at dksX7_tellSlices_4 2 rfl rfl)
theorem dX7_tellSlices_96 : decode cX7_tellSlices 96 = .ok (.dup, 1) := dk_89 (dk_at dksX7_tellSlices_4 3 rfl rfl)
theorem dX7_tellSlices_97 : decode cX7_tellSlices 97 = .ok (.getfield 383, 3) := dk_180 1 127 (dk_at dksX7_tellSlices_4 4 rfl rfl)
theorem dX7_tellSlices_100 : decode cX7_tellSlices 100 = .ok (.aload_n 0, 1) := dk_42 (dk_at dksX7_tellSlices_4 7 rfl rfl)
theorem dX7_tellSlices_101 : decode cX7_tellSlices 101 = .ok (.getfield 97, 3) := dk_180 0 97 (dk_at dksX7_tellSlices_4 8 rfl rfl)
theorem dX7_tellSlices_104 : decode cX7_tellSlices 104 = .ok (.iload 4, 2) := dk_21 4 (dk_at dksX7_tellSlices_4 11 rfl rfl)
theorem dX7_tellSlices_106 : decode cX7_tellSlices 106 = .ok (.iaload, 1) := dk_46 (dk_at dksX7_tellSlices_4 13 rfl rfl)
theorem dX7_tellSlices_107 : decode cX7_tellSlices 107 = .ok (.isub, 1) := dk_100 (dk_at dksX7_tellSlices_4 14 rfl rfl)
theorem dX7_tellSlices_108 : decode cX7_tellSlices 108 = .ok (.putfield 383, 3) := dk_181 1 127 (dk_at dksX7_tellSlices_4 15 rfl rfl)
theorem dX7_tellSlices_111 : decode cX7_tellSlices 111 = .ok (.iinc 4 1, 3) := dk_132 4 1 (dk_at dksX7_tellSlices_4 18 rfl rfl)
theorem dX7_tellSlices_114 : decode cX7_tellSlices 114 = .ok (.goto (-51), 3) := dk_167 255 205 (dk_at dksX7_tellSlices_4 21 rfl rfl)
theorem dX7_tellSlices_117 : decode cX7_tellSlices 117 = .ok (.iconst 0, 1) := dk_3 (dk_at dksX7_tellSlices_5 0 rfl rfl)
theorem dX7_tellSlices_118 : decode cX7_tellSlices 118 = .ok (.istore 4, 2) := dk_54 4 (dk_at dksX7_tellSlices_5 1 rfl rfl)
theorem dX7_tellSlices_120 : decode cX7_tellSlices 120 = .ok (.aload_n 0, 1) := dk_42 (dk_at dksX7_tellSlices_5 3 rfl rfl)
theorem dX7_tellSlices_121 : decode cX7_tellSlices 121 = .ok (.getfield 61, 3) := dk_180 0 61 (dk_at dksX7_tellSlices_5 4 rfl rfl)
theorem dX7_tellSlices_124 : decode cX7_tellSlices 124 = .ok (.iload_n 2, 1) := dk_28 (dk_at dksX7_tellSlices_5 7 rfl rfl)
theorem dX7_tellSlices_125 : decode cX7_tellSlices 125 = .ok (.iaload, 1) := dk_46 (dk_at dksX7_tellSlices_5 8 rfl rfl)
theorem dX7_tellSlices_126 : decode cX7_tellSlices 126 = .ok (.iconst 1, 1) := dk_4 (dk_at dksX7_tellSlices_5 9 rfl rfl)
theorem dX7_tellSlices_127 : decode cX7_tellSlices 127 = .ok (.isub, 1) := dk_100 (dk_at dksX7_tellSlices_5 10 rfl rfl)
theorem dX7_tellSlices_128 : decode cX7_tellSlices 128 = .ok (.istore 5, 2) := dk_54 5 (dk_at dksX7_tellSlices_5 11 rfl rfl)
theorem dX7_tellSlices_130 : decode cX7_tellSlices 130 = .ok (.iload 5, 2) := dk_21 5 (dk_at dksX7_tellSlices_5 13 rfl rfl)
theorem dX7_tellSlices_132 : decode cX7_tellSlices 132 = .ok (.ifCond .lt 124, 3) := dk_155 0 124 (dk_at dksX7_tellSlices_5 15 rfl rfl)
theorem dX7_tellSlices_135 : decode cX7_tellSlices 135 = .ok (.aload_n 0, 1) := dk_42 (dk_at dksX7_tellSlices_5 18 rfl rfl)
theorem dX7_tellSlices_136 : decode cX7_tellSlices 136 = .ok (.getfield 99, 3) := dk_180 0 99 (dk_at dksX7_tellSlices_5 19 rfl rfl)
theorem dX7_tellSlices_139 : decode cX7_tellSlices 139 = .ok (.iload 5, 2) := dk_21 5 (dk_at dksX7_tellSlices_5 22 rfl rfl)
theorem dX7_tellSlices_141 : decode cX7_tellSlices 141 = .ok (.iaload, 1) := dk_46 (dk_at dksX7_tellSlices_6 0 rfl rfl)
theorem dX7_tellSlices_142 : decode cX7_tellSlices 142 = .ok (.iload 5, 2) := dk_21 5 (dk_at dksX7_tellSlices_6 1 rfl rfl)
theorem dX7_tellSlices_144 : decode cX7_tellSlices 144 = .ok (.if_icmp .eq 25, 3) := dk_159 0 25 (dk_at dksX7_tellSlices_6 3 rfl rfl)
theorem dX7_tellSlices_147 : decode cX7_tellSlices 147 = .ok (.aload_n 0, 1) := dk_42 (dk_at dksX7_tellSlices_6 6 rfl rfl)
theorem dX7_tellSlices_148 : decode cX7_tellSlices 148 = .ok (.getfield 102, 3) := dk_180 0 102 (dk_at dksX7_tellSlices_6 7 rfl rfl)
theorem dX7_tellSlices_151 : decode cX7_tellSlices 151 = .ok (.iload 5, 2) := dk_21 5 (dk_at dksX7_tellSlices_6 10 rfl rfl)
theorem dX7_tellSlices_153 : decode cX7_tellSlices 153 = .ok (.aload_n 0, 1) := dk_42 (dk_at dksX7_tellSlices_6 12 rfl rfl)
theorem dX7_tellSlices_154 : decode cX7_tellSlices 154 = .ok (.getfield 102, 3) := dk_180 0 102 (dk_at dksX7_tellSlices_6 13 rfl rfl)
theorem dX7_tellSlices_157 : decode cX7_tellSlices 157 = .ok (.aload_n 0, 1) := dk_42 (dk_at dksX7_tellSlices_6 16 rfl rfl)
theorem dX7_tellSlices_158 : decode cX7_tellSlices 158 = .ok (.getfield 99, 3) := dk_180 0 99 (dk_at dksX7_tellSlices_6 17 rfl rfl)
theorem dX7_tellSlices_161 : decode cX7_tellSlices 161 = .ok (.iload 5, 2) := dk_21 5 (dk_at dksX7_tellSlices_6 20 rfl rfl)
theorem dX7_tellSlices_163 : decode cX7_tellSlices 163 = .ok (.iaload, 1) := dk_46 (dk_at dksX7_tellSlices_6 22 rfl rfl)
theorem dX7_tellSlices_164 : decode cX7_tellSlices 164 = .ok (.iaload, 1) := dk_46 (dk_at dksX7_tellSlices_6 23 rfl rfl)
theorem dX7_tellSlices_165 : decode cX7_tellSlices 165 = .ok (.iastore, 1) := dk_79 (dk_at dksX7_tellSlices_7 0 rfl rfl)
theorem dX7_tellSlices_166 : decode cX7_tellSlices 166 = .ok (.goto 84, 3) := dk_167 0 84 (dk_at dksX7_tellSlices_7 1 rfl rfl)
theorem dX7_tellSlices_169 : decode cX7_tellSlices 169 = .ok (.iconst (-1), 1) := dk_2 (dk_at dksX7_tellSlices_7 4 rfl rfl)
theorem dX7_tellSlices_170 : decode cX7_tellSlices 170 = .ok (.istore 6, 2) := dk_54 6 (dk_at dksX7_tellSlices_7 5 rfl rfl)
theorem dX7_tellSlices_172 : decode cX7_tellSlices 172 = .ok (.iconst 0, 1) := dk_3 (dk_at dksX7_tellSlices_7 7 rfl rfl)
theorem dX7_tellSlices_173 : decode cX7_tellSlices 173 = .ok (.istore 7, 2) := dk_54 7 (dk_at dksX7_tellSlices_7 8 rfl rfl)
theorem dX7_tellSlices_175 : decode cX7_tellSlices 175 = .ok (.iload 7, 2) := dk_21 7 (dk_at dksX7_tellSlices_7 10 rfl rfl)
theorem dX7_tellSlices_177 : decode cX7_tellSlices 177 = .ok (.aload_n 0, 1) := dk_42 (dk_at dksX7_tellSlices_7 12 rfl rfl)
theorem dX7_tellSlices_178 : decode cX7_tellSlices 178 = .ok (.getfield 371, 3) := dk_180 1 115 (dk_at dksX7_tellSlices_7 13 rfl rfl)
theorem dX7_tellSlices_181 : decode cX7_tellSlices 181 = .ok (.if_icmp .ge 46, 3) := dk_162 0 46 (dk_at dksX7_tellSlices_7 16 rfl rfl)
theorem dX7_tellSlices_184 : decode cX7_tellSlices 184 = .ok (.iload 4, 2) := dk_21 4 (dk_at dksX7_tellSlices_7 19 rfl rfl)
theorem dX7_tellSlices_186 : decode cX7_tellSlices 186 = .ok (.iload 7, 2) := dk_21 7 (dk_at dksX7_tellSlices_7 21 rfl rfl)
theorem dX7_tellSlices_188 : decode cX7_tellSlices 188 = .ok (.invokestatic 278, 3) := dk_184 1 22 (dk_at dksX7_tellSlices_8 0 rfl rfl)
theorem dX7_tellSlices_191 : decode cX7_tellSlices 191 = .ok (.ifCond .ne 30, 3) := dk_154 0 30 (dk_at dksX7_tellSlices_8 3 rfl rfl)
theorem dX7_tellSlices_194 : decode cX7_tellSlices 194 = .ok (.iload 6, 2) := dk_21 6 (dk_at dksX7_tellSlices_8 6 rfl rfl)
theorem dX7_tellSlices_196 : decode cX7_tellSlices 196 = .ok (.iconst (-1), 1) := dk_2 (dk_at dksX7_tellSlices_8 8 rfl rfl)
theorem dX7_tellSlices_197 : decode cX7_tellSlices 197 = .ok (.if_icmp .eq 20, 3) := dk_159 0 20 (dk_at dksX7_tellSlices_8 9 rfl rfl)
theorem dX7_tellSlices_200 : decode cX7_tellSlices 200 = .ok (.aload_n 0, 1) := dk_42 (dk_at dksX7_tellSlices_8 12 rfl rfl)
theorem dX7_tellSlices_201 : decode cX7_tellSlices 201 = .ok (.getfield 97, 3) := dk_180 0 97 (dk_at dksX7_tellSlices_8 13 rfl rfl)
theorem dX7_tellSlices_204 : decode cX7_tellSlices 204 = .ok (.iload 7, 2) := dk_21 7 (dk_at dksX7_tellSlices_8 16 rfl rfl)
theorem dX7_tellSlices_206 : decode cX7_tellSlices 206 = .ok (.iaload, 1) := dk_46 (dk_at dksX7_tellSlices_8 18 rfl rfl)
theorem dX7_tellSlices_207 : decode cX7_tellSlices 207 = .ok (.aload_n 0, 1) := dk_42 (dk_at dksX7_tellSlices_8 19 rfl rfl)
theorem dX7_tellSlices_208 : decode cX7_tellSlices 208 = .ok (.getfield 97, 3) := dk_180 0 97 (dk_at dksX7_tellSlices_8 20 rfl rfl)
theorem dX7_tellSlices_211 : decode cX7_tellSlices 211 = .ok (.iload 6, 2) := dk_21 6 (dk_at dksX7_tellSlices_9 0 rfl rfl)
theorem dX7_tellSlices_213 : decode cX7_tellSlices 213 = .ok (.iaload, 1) := dk_46 (dk_at dksX7_tellSlices_9 2 rfl rfl)
theorem dX7_tellSlices_214 : decode cX7_tellSlices 214 = .ok (.if_icmp .le 7, 3) := dk_164 0 7 (dk_at dksX7_tellSlices_9 3 rfl rfl)
theorem dX7_tellSlices_217 : decode cX7_tellSlices 217 = .ok (.iload 7, 2) := dk_21 7 (dk_at dksX7_tellSlices_9 6 rfl rfl)
theorem dX7_tellSlices_219 : decode cX7_tellSlices 219 = .ok (.istore 6, 2) := dk_54 6 (dk_at dksX7_tellSlices_9 8 rfl rfl)
theorem dX7_tellSlices_221 : decode cX7_tellSlices 221 = .ok (.iinc 7 1, 3) := dk_132 7 1 (dk_at dksX7_tellSlices_9 10 rfl rfl)
theorem dX7_tellSlices_224 : decode cX7_tellSlices 224 = .ok (.goto (-49), 3) := dk_167 255 207 (dk_at dksX7_tellSlices_9 13 rfl rfl)
theorem dX7_tellSlices_227 : decode cX7_tellSlices 227 = .ok (.iload 4, 2) := dk_21 4 (dk_at dksX7_tellSlices_9 16 rfl rfl)
theorem dX7_tellSlices_229 : decode cX7_tellSlices 229 = .ok (.iconst 1, 1) := dk_4 (dk_at dksX7_tellSlices_9 18 rfl rfl)
theorem dX7_tellSlices_230 : decode cX7_tellSlices 230 = .ok (.iload 6, 2) := dk_21 6 (dk_at dksX7_tellSlices_9 19 rfl rfl)
theorem dX7_tellSlices_232 : decode cX7_tellSlices 232 = .ok (.ishl, 1) := dk_120 (dk_at dksX7_tellSlices_9 21 rfl rfl)
theorem dX7_tellSlices_233 : decode cX7_tellSlices 233 = .ok (.ior, 1) := dk_128 (dk_at dksX7_tellSlices_9 22 rfl rfl)
theorem dX7_tellSlices_234 : decode cX7_tellSlices 234 = .ok (.istore 4, 2) := dk_54 4 (dk_at dksX7_tellSlices_10 0 rfl rfl)
theorem dX7_tellSlices_236 : decode cX7_tellSlices 236 = .ok (.aload_n 0, 1) := dk_42 (dk_at dksX7_tellSlices_10 2 rfl rfl)
theorem dX7_tellSlices_237 : decode cX7_tellSlices 237 = .ok (.getfield 102, 3) := dk_180 0 102 (dk_at dksX7_tellSlices_10 3 rfl rfl)
theorem dX7_tellSlices_240 : decode cX7_tellSlices 240 = .ok (.iload 5, 2) := dk_21 5 (dk_at dksX7_tellSlices_10 6 rfl rfl)
theorem dX7_tellSlices_242 : decode cX7_tellSlices 242 = .ok (.aload_n 0, 1) := dk_42 (dk_at dksX7_tellSlices_10 8 rfl rfl)
theorem dX7_tellSlices_243 : decode cX7_tellSlices 243 = .ok (.getfield 97, 3) := dk_180 0 97 (dk_at dksX7_tellSlices_10 9 rfl rfl)
theorem dX7_tellSlices_246 : decode cX7_tellSlices 246 = .ok (.iload 6, 2) := dk_21 6 (dk_at dksX7_tellSlices_10 12 rfl rfl)
theorem dX7_tellSlices_248 : decode cX7_tellSlices 248 = .ok (.iaload, 1) := dk_46 (dk_at dksX7_tellSlices_10 14 rfl rfl)
theorem dX7_tellSlices_249 : decode cX7_tellSlices 249 = .ok (.iastore, 1) := dk_79 (dk_at dksX7_tellSlices_10 15 rfl rfl)
theorem dX7_tellSlices_250 : decode cX7_tellSlices 250 = .ok (.iinc 5 (-1), 3) := dk_132 5 255 (dk_at dksX7_tellSlices_10 16 rfl rfl)
theorem dX7_tellSlices_253 : decode cX7_tellSlices 253 = .ok (.goto (-123), 3) := dk_167 255 133 (dk_at dksX7_tellSlices_10 19 rfl rfl)
theorem dX7_tellSlices_256 : decode cX7_tellSlices 256 = .ok (.return_, 1) := dk_177 (dk_at dksX7_tellSlices_10 22 rfl rfl)
abbrev cX7_shareOf : ByteArray := prog_21_method_54_code
def yX7_shareOf : MethodName := ⟨RX7, "shareOf", "(III)I"⟩
def dkwX7_shareOf_5 : List UInt8 := [184, 0, 195, 184, 1, 29, 172]
abbrev dktX7_shareOf_5 : List UInt8 := dkwX7_shareOf_5 ++ []
def dkwX7_shareOf_4 : List UInt8 := [27, 46, 79, 42, 180, 0, 91, 8, 42, 180, 0, 86, 27, 46, 79, 4, 16, 99, 42, 182, 1, 118]
abbrev dktX7_shareOf_4 : List UInt8 := dkwX7_shareOf_4 ++ dktX7_shareOf_5
def dkwX7_shareOf_3 : List UInt8 := [28, 46, 79, 42, 180, 0, 91, 6, 42, 180, 0, 42, 27, 46, 79, 42, 180, 0, 91, 7, 42, 180, 0, 47]
abbrev dktX7_shareOf_3 : List UInt8 := dkwX7_shareOf_3 ++ dktX7_shareOf_4
def dkwX7_shareOf_2 : List UInt8 := [167, 0, 4, 29, 79, 42, 180, 0, 91, 4, 42, 180, 1, 115, 79, 42, 180, 0, 91, 5, 42, 180, 0, 52]
abbrev dktX7_shareOf_2 : List UInt8 := dkwX7_shareOf_2 ++ dktX7_shareOf_3
def dkwX7_shareOf_1 : List UInt8 := [180, 0, 91, 3, 42, 180, 0, 42, 27, 46, 4, 160, 0, 14, 42, 180, 1, 115, 4, 100, 29, 100]
abbrev dktX7_shareOf_1 : List UInt8 := dkwX7_shareOf_1 ++ dktX7_shareOf_2
def dkwX7_shareOf_0 : List UInt8 := [42, 180, 0, 38, 8, 46, 153, 0, 13, 42, 180, 0, 42, 27, 46, 5, 160, 0, 5, 4, 172, 42]
abbrev dktX7_shareOf_0 : List UInt8 := dkwX7_shareOf_0 ++ dktX7_shareOf_1
theorem dksX7_shareOf_0 : cX7_shareOf.data.toList.drop 0 = dktX7_shareOf_0 := by decide +kernel
theorem dksX7_shareOf_1 : cX7_shareOf.data.toList.drop 22 = dktX7_shareOf_1 := dk_seg dksX7_shareOf_0 22 rfl rfl
theorem dksX7_shareOf_2 : cX7_shareOf.data.toList.drop 44 = dktX7_shareOf_2 := dk_seg dksX7_shareOf_1 22 rfl rfl
theorem dksX7_shareOf_3 : cX7_shareOf.data.toList.drop 68 = dktX7_shareOf_3 := dk_seg dksX7_shareOf_2 24 rfl rfl
theorem dksX7_shareOf_4 : cX7_shareOf.data.toList.drop 92 = dktX7_shareOf_4 := dk_seg dksX7_shareOf_3 24 rfl rfl
theorem dksX7_shareOf_5 : cX7_shareOf.data.toList.drop 114 = dktX7_shareOf_5 := dk_seg dksX7_shareOf_4 22 rfl rfl
theorem dX7_shareOf_0 : decode cX7_shareOf 0 = .ok (.aload_n 0, 1) := dk_42 (dk_at dksX7_shareOf_0 0 rfl rfl)
theorem dX7_shareOf_1 : decode cX7_shareOf 1 = .ok (.getfield 38, 3) := dk_180 0 38 (dk_at dksX7_shareOf_0 1 rfl rfl)
theorem dX7_shareOf_4 : decode cX7_shareOf 4 = .ok (.iconst 5, 1) := dk_8 (dk_at dksX7_shareOf_0 4 rfl rfl)
theorem dX7_shareOf_5 : decode cX7_shareOf 5 = .ok (.iaload, 1) := dk_46 (dk_at dksX7_shareOf_0 5 rfl rfl)
theorem dX7_shareOf_6 : decode cX7_shareOf 6 = .ok (.ifCond .eq 13, 3) := dk_153 0 13 (dk_at dksX7_shareOf_0 6 rfl rfl)
theorem dX7_shareOf_9 : decode cX7_shareOf 9 = .ok (.aload_n 0, 1) := dk_42 (dk_at dksX7_shareOf_0 9 rfl rfl)
theorem dX7_shareOf_10 : decode cX7_shareOf 10 = .ok (.getfield 42, 3) := dk_180 0 42 (dk_at dksX7_shareOf_0 10 rfl rfl)
theorem dX7_shareOf_13 : decode cX7_shareOf 13 = .ok (.iload_n 1, 1) := dk_27 (dk_at dksX7_shareOf_0 13 rfl rfl)
theorem dX7_shareOf_14 : decode cX7_shareOf 14 = .ok (.iaload, 1) := dk_46 (dk_at dksX7_shareOf_0 14 rfl rfl)
theorem dX7_shareOf_15 : decode cX7_shareOf 15 = .ok (.iconst 2, 1) := dk_5 (dk_at dksX7_shareOf_0 15 rfl rfl)
theorem dX7_shareOf_16 : decode cX7_shareOf 16 = .ok (.if_icmp .ne 5, 3) := dk_160 0 5 (dk_at dksX7_shareOf_0 16 rfl rfl)
theorem dX7_shareOf_19 : decode cX7_shareOf 19 = .ok (.iconst 1, 1) := dk_4 (dk_at dksX7_shareOf_0 19 rfl rfl)
theorem dX7_shareOf_20 : decode cX7_shareOf 20 = .ok (.ireturn, 1) := dk_172 (dk_at dksX7_shareOf_0 20 rfl rfl)
theorem dX7_shareOf_21 : decode cX7_shareOf 21 = .ok (.aload_n 0, 1) := dk_42 (dk_at dksX7_shareOf_0 21 rfl rfl)
theorem dX7_shareOf_22 : decode cX7_shareOf 22 = .ok (.getfield 91, 3) := dk_180 0 91 (dk_at dksX7_shareOf_1 0 rfl rfl)
theorem dX7_shareOf_25 : decode cX7_shareOf 25 = .ok (.iconst 0, 1) := dk_3 (dk_at dksX7_shareOf_1 3 rfl rfl)
theorem dX7_shareOf_26 : decode cX7_shareOf 26 = .ok (.aload_n 0, 1) := dk_42 (dk_at dksX7_shareOf_1 4 rfl rfl)
theorem dX7_shareOf_27 : decode cX7_shareOf 27 = .ok (.getfield 42, 3) := dk_180 0 42 (dk_at dksX7_shareOf_1 5 rfl rfl)
theorem dX7_shareOf_30 : decode cX7_shareOf 30 = .ok (.iload_n 1, 1) := dk_27 (dk_at dksX7_shareOf_1 8 rfl rfl)
theorem dX7_shareOf_31 : decode cX7_shareOf 31 = .ok (.iaload, 1) := dk_46 (dk_at dksX7_shareOf_1 9 rfl rfl)
theorem dX7_shareOf_32 : decode cX7_shareOf 32 = .ok (.iconst 1, 1) := dk_4 (dk_at dksX7_shareOf_1 10 rfl rfl)
theorem dX7_shareOf_33 : decode cX7_shareOf 33 = .ok (.if_icmp .ne 14, 3) := dk_160 0 14 (dk_at dksX7_shareOf_1 11 rfl rfl)
theorem dX7_shareOf_36 : decode cX7_shareOf 36 = .ok (.aload_n 0, 1) := dk_42 (dk_at dksX7_shareOf_1 14 rfl rfl)
theorem dX7_shareOf_37 : decode cX7_shareOf 37 = .ok (.getfield 371, 3) := dk_180 1 115 (dk_at dksX7_shareOf_1 15 rfl rfl)
theorem dX7_shareOf_40 : decode cX7_shareOf 40 = .ok (.iconst 1, 1) := dk_4 (dk_at dksX7_shareOf_1 18 rfl rfl)
theorem dX7_shareOf_41 : decode cX7_shareOf 41 = .ok (.isub, 1) := dk_100 (dk_at dksX7_shareOf_1 19 rfl rfl)
theorem dX7_shareOf_42 : decode cX7_shareOf 42 = .ok (.iload_n 3, 1) := dk_29 (dk_at dksX7_shareOf_1 20 rfl rfl)
theorem dX7_shareOf_43 : decode cX7_shareOf 43 = .ok (.isub, 1) := dk_100 (dk_at dksX7_shareOf_1 21 rfl rfl)
theorem dX7_shareOf_44 : decode cX7_shareOf 44 = .ok (.goto 4, 3) := dk_167 0 4 (dk_at dksX7_shareOf_2 0 rfl rfl)
theorem dX7_shareOf_47 : decode cX7_shareOf 47 = .ok (.iload_n 3, 1) := dk_29 (dk_at dksX7_shareOf_2 3 rfl rfl)
theorem dX7_shareOf_48 : decode cX7_shareOf 48 = .ok (.iastore, 1) := dk_79 (dk_at dksX7_shareOf_2 4 rfl rfl)
theorem dX7_shareOf_49 : decode cX7_shareOf 49 = .ok (.aload_n 0, 1) := dk_42 (dk_at dksX7_shareOf_2 5 rfl rfl)
theorem dX7_shareOf_50 : decode cX7_shareOf 50 = .ok (.getfield 91, 3) := dk_180 0 91 (dk_at dksX7_shareOf_2 6 rfl rfl)
theorem dX7_shareOf_53 : decode cX7_shareOf 53 = .ok (.iconst 1, 1) := dk_4 (dk_at dksX7_shareOf_2 9 rfl rfl)
theorem dX7_shareOf_54 : decode cX7_shareOf 54 = .ok (.aload_n 0, 1) := dk_42 (dk_at dksX7_shareOf_2 10 rfl rfl)
theorem dX7_shareOf_55 : decode cX7_shareOf 55 = .ok (.getfield 371, 3) := dk_180 1 115 (dk_at dksX7_shareOf_2 11 rfl rfl)
theorem dX7_shareOf_58 : decode cX7_shareOf 58 = .ok (.iastore, 1) := dk_79 (dk_at dksX7_shareOf_2 14 rfl rfl)
theorem dX7_shareOf_59 : decode cX7_shareOf 59 = .ok (.aload_n 0, 1) := dk_42 (dk_at dksX7_shareOf_2 15 rfl rfl)
theorem dX7_shareOf_60 : decode cX7_shareOf 60 = .ok (.getfield 91, 3) := dk_180 0 91 (dk_at dksX7_shareOf_2 16 rfl rfl)
theorem dX7_shareOf_63 : decode cX7_shareOf 63 = .ok (.iconst 2, 1) := dk_5 (dk_at dksX7_shareOf_2 19 rfl rfl)
theorem dX7_shareOf_64 : decode cX7_shareOf 64 = .ok (.aload_n 0, 1) := dk_42 (dk_at dksX7_shareOf_2 20 rfl rfl)
theorem dX7_shareOf_65 : decode cX7_shareOf 65 = .ok (.getfield 52, 3) := dk_180 0 52 (dk_at dksX7_shareOf_2 21 rfl rfl)
theorem dX7_shareOf_68 : decode cX7_shareOf 68 = .ok (.iload_n 2, 1) := dk_28 (dk_at dksX7_shareOf_3 0 rfl rfl)
theorem dX7_shareOf_69 : decode cX7_shareOf 69 = .ok (.iaload, 1) := dk_46 (dk_at dksX7_shareOf_3 1 rfl rfl)
theorem dX7_shareOf_70 : decode cX7_shareOf 70 = .ok (.iastore, 1) := dk_79 (dk_at dksX7_shareOf_3 2 rfl rfl)
theorem dX7_shareOf_71 : decode cX7_shareOf 71 = .ok (.aload_n 0, 1) := dk_42 (dk_at dksX7_shareOf_3 3 rfl rfl)
theorem dX7_shareOf_72 : decode cX7_shareOf 72 = .ok (.getfield 91, 3) := dk_180 0 91 (dk_at dksX7_shareOf_3 4 rfl rfl)
theorem dX7_shareOf_75 : decode cX7_shareOf 75 = .ok (.iconst 3, 1) := dk_6 (dk_at dksX7_shareOf_3 7 rfl rfl)
theorem dX7_shareOf_76 : decode cX7_shareOf 76 = .ok (.aload_n 0, 1) := dk_42 (dk_at dksX7_shareOf_3 8 rfl rfl)
theorem dX7_shareOf_77 : decode cX7_shareOf 77 = .ok (.getfield 42, 3) := dk_180 0 42 (dk_at dksX7_shareOf_3 9 rfl rfl)
theorem dX7_shareOf_80 : decode cX7_shareOf 80 = .ok (.iload_n 1, 1) := dk_27 (dk_at dksX7_shareOf_3 12 rfl rfl)
theorem dX7_shareOf_81 : decode cX7_shareOf 81 = .ok (.iaload, 1) := dk_46 (dk_at dksX7_shareOf_3 13 rfl rfl)
theorem dX7_shareOf_82 : decode cX7_shareOf 82 = .ok (.iastore, 1) := dk_79 (dk_at dksX7_shareOf_3 14 rfl rfl)
theorem dX7_shareOf_83 : decode cX7_shareOf 83 = .ok (.aload_n 0, 1) := dk_42 (dk_at dksX7_shareOf_3 15 rfl rfl)
theorem dX7_shareOf_84 : decode cX7_shareOf 84 = .ok (.getfield 91, 3) := dk_180 0 91 (dk_at dksX7_shareOf_3 16 rfl rfl)
theorem dX7_shareOf_87 : decode cX7_shareOf 87 = .ok (.iconst 4, 1) := dk_7 (dk_at dksX7_shareOf_3 19 rfl rfl)
theorem dX7_shareOf_88 : decode cX7_shareOf 88 = .ok (.aload_n 0, 1) := dk_42 (dk_at dksX7_shareOf_3 20 rfl rfl)
theorem dX7_shareOf_89 : decode cX7_shareOf 89 = .ok (.getfield 47, 3) := dk_180 0 47 (dk_at dksX7_shareOf_3 21 rfl rfl)
theorem dX7_shareOf_92 : decode cX7_shareOf 92 = .ok (.iload_n 1, 1) := dk_27 (dk_at dksX7_shareOf_4 0 rfl rfl)
theorem dX7_shareOf_93 : decode cX7_shareOf 93 = .ok (.iaload, 1) := dk_46 (dk_at dksX7_shareOf_4 1 rfl rfl)
theorem dX7_shareOf_94 : decode cX7_shareOf 94 = .ok (.iastore, 1) := dk_79 (dk_at dksX7_shareOf_4 2 rfl rfl)
theorem dX7_shareOf_95 : decode cX7_shareOf 95 = .ok (.aload_n 0, 1) := dk_42 (dk_at dksX7_shareOf_4 3 rfl rfl)
theorem dX7_shareOf_96 : decode cX7_shareOf 96 = .ok (.getfield 91, 3) := dk_180 0 91 (dk_at dksX7_shareOf_4 4 rfl rfl)
theorem dX7_shareOf_99 : decode cX7_shareOf 99 = .ok (.iconst 5, 1) := dk_8 (dk_at dksX7_shareOf_4 7 rfl rfl)
theorem dX7_shareOf_100 : decode cX7_shareOf 100 = .ok (.aload_n 0, 1) := dk_42 (dk_at dksX7_shareOf_4 8 rfl rfl)
theorem dX7_shareOf_101 : decode cX7_shareOf 101 = .ok (.getfield 86, 3) := dk_180 0 86 (dk_at dksX7_shareOf_4 9 rfl rfl)
theorem dX7_shareOf_104 : decode cX7_shareOf 104 = .ok (.iload_n 1, 1) := dk_27 (dk_at dksX7_shareOf_4 12 rfl rfl)
theorem dX7_shareOf_105 : decode cX7_shareOf 105 = .ok (.iaload, 1) := dk_46 (dk_at dksX7_shareOf_4 13 rfl rfl)
theorem dX7_shareOf_106 : decode cX7_shareOf 106 = .ok (.iastore, 1) := dk_79 (dk_at dksX7_shareOf_4 14 rfl rfl)
theorem dX7_shareOf_107 : decode cX7_shareOf 107 = .ok (.iconst 1, 1) := dk_4 (dk_at dksX7_shareOf_4 15 rfl rfl)
theorem dX7_shareOf_108 : decode cX7_shareOf 108 = .ok (.bipush 99, 2) := dk_16 99 (dk_at dksX7_shareOf_4 16 rfl rfl)
theorem dX7_shareOf_110 : decode cX7_shareOf 110 = .ok (.aload_n 0, 1) := dk_42 (dk_at dksX7_shareOf_4 18 rfl rfl)
theorem dX7_shareOf_111 : decode cX7_shareOf 111 = .ok (.invokevirtual 374, 3) := dk_182 1 118 (dk_at dksX7_shareOf_4 19 rfl rfl)
theorem dX7_shareOf_114 : decode cX7_shareOf 114 = .ok (.invokestatic 195, 3) := dk_184 0 195 (dk_at dksX7_shareOf_5 0 rfl rfl)
theorem dX7_shareOf_117 : decode cX7_shareOf 117 = .ok (.invokestatic 285, 3) := dk_184 1 29 (dk_at dksX7_shareOf_5 3 rfl rfl)
theorem dX7_shareOf_120 : decode cX7_shareOf 120 = .ok (.ireturn, 1) := dk_172 (dk_at dksX7_shareOf_5 6 rfl rfl)
abbrev cX7_valueNow : ByteArray := prog_21_method_53_code
def yX7_valueNow : MethodName := ⟨RX7, "valueNow", "()I"⟩
def dkwX7_valueNow_5 : List UInt8 := [167, 255, 140, 42, 180, 0, 94, 3, 46, 172]
abbrev dktX7_valueNow_5 : List UInt8 := dkwX7_valueNow_5 ++ []
def dkwX7_valueNow_4 : List UInt8 := [4, 100, 29, 42, 180, 0, 94, 27, 4, 100, 46, 42, 180, 0, 94, 27, 46, 184, 1, 111, 79, 132, 2, 1]
abbrev dktX7_valueNow_4 : List UInt8 := dkwX7_valueNow_4 ++ dktX7_valueNow_5
def dkwX7_valueNow_3 : List UInt8 := [27, 4, 100, 46, 153, 0, 7, 3, 167, 0, 4, 4, 79, 167, 0, 32, 132, 1, 255, 42, 180, 0, 94, 27]
abbrev dktX7_valueNow_3 : List UInt8 := dkwX7_valueNow_3 ++ dktX7_valueNow_4
def dkwX7_valueNow_2 : List UInt8 := [79, 132, 1, 1, 167, 0, 65, 29, 16, 228, 160, 0, 30, 42, 180, 0, 94, 27, 4, 100, 42, 180, 0, 94]
abbrev dktX7_valueNow_2 : List UInt8 := dkwX7_valueNow_2 ++ dktX7_valueNow_3
def dkwX7_valueNow_1 : List UInt8 := [164, 0, 31, 42, 180, 0, 94, 27, 29, 155, 0, 7, 29, 167, 0, 11, 42, 180, 0, 91, 2, 29, 100, 46]
abbrev dktX7_valueNow_1 : List UInt8 := dkwX7_valueNow_1 ++ dktX7_valueNow_2
def dkwX7_valueNow_0 : List UInt8 := [3, 60, 3, 61, 28, 42, 180, 0, 38, 8, 46, 162, 0, 112, 42, 180, 0, 70, 28, 46, 62, 29, 16, 236]
abbrev dktX7_valueNow_0 : List UInt8 := dkwX7_valueNow_0 ++ dktX7_valueNow_1
theorem dksX7_valueNow_0 : cX7_valueNow.data.toList.drop 0 = dktX7_valueNow_0 := by decide +kernel
theorem dksX7_valueNow_1 : cX7_valueNow.data.toList.drop 24 = dktX7_valueNow_1 := dk_seg dksX7_valueNow_0 24 rfl rfl
theorem dksX7_valueNow_2 : cX7_valueNow.data.toList.drop 48 = dktX7_valueNow_2 := dk_seg dksX7_valueNow_1 24 rfl rfl
theorem dksX7_valueNow_3 : cX7_valueNow.data.toList.drop 72 = dktX7_valueNow_3 := dk_seg dksX7_valueNow_2 24 rfl rfl
theorem dksX7_valueNow_4 : cX7_valueNow.data.toList.drop 96 = dktX7_valueNow_4 := dk_seg dksX7_valueNow_3 24 rfl rfl
theorem dksX7_valueNow_5 : cX7_valueNow.data.toList.drop 120 = dktX7_valueNow_5 := dk_seg dksX7_valueNow_4 24 rfl rfl
theorem dX7_valueNow_0 : decode cX7_valueNow 0 = .ok (.iconst 0, 1) := dk_3 (dk_at dksX7_valueNow_0 0 rfl rfl)
theorem dX7_valueNow_1 : decode cX7_valueNow 1 = .ok (.istore_n 1, 1) := dk_60 (dk_at dksX7_valueNow_0 1 rfl rfl)
theorem dX7_valueNow_2 : decode cX7_valueNow 2 = .ok (.iconst 0, 1) := dk_3 (dk_at dksX7_valueNow_0 2 rfl rfl)
theorem dX7_valueNow_3 : decode cX7_valueNow 3 = .ok (.istore_n 2, 1) := dk_61 (dk_at dksX7_valueNow_0 3 rfl rfl)
theorem dX7_valueNow_4 : decode cX7_valueNow 4 = .ok (.iload_n 2, 1) := dk_28 (dk_at dksX7_valueNow_0 4 rfl rfl)
theorem dX7_valueNow_5 : decode cX7_valueNow 5 = .ok (.aload_n 0, 1) := dk_42 (dk_at dksX7_valueNow_0 5 rfl rfl)
theorem dX7_valueNow_6 : decode cX7_valueNow 6 = .ok (.getfield 38, 3) := dk_180 0 38 (dk_at dksX7_valueNow_0 6 rfl rfl)
theorem dX7_valueNow_9 : decode cX7_valueNow 9 = .ok (.iconst 5, 1) := dk_8 (dk_at dksX7_valueNow_0 9 rfl rfl)
theorem dX7_valueNow_10 : decode cX7_valueNow 10 = .ok (.iaload, 1) := dk_46 (dk_at dksX7_valueNow_0 10 rfl rfl)
theorem dX7_valueNow_11 : decode cX7_valueNow 11 = .ok (.if_icmp .ge 112, 3) := dk_162 0 112 (dk_at dksX7_valueNow_0 11 rfl rfl)
theorem dX7_valueNow_14 : decode cX7_valueNow 14 = .ok (.aload_n 0, 1) := dk_42 (dk_at dksX7_valueNow_0 14 rfl rfl)
theorem dX7_valueNow_15 : decode cX7_valueNow 15 = .ok (.getfield 70, 3) := dk_180 0 70 (dk_at dksX7_valueNow_0 15 rfl rfl)
theorem dX7_valueNow_18 : decode cX7_valueNow 18 = .ok (.iload_n 2, 1) := dk_28 (dk_at dksX7_valueNow_0 18 rfl rfl)
theorem dX7_valueNow_19 : decode cX7_valueNow 19 = .ok (.iaload, 1) := dk_46 (dk_at dksX7_valueNow_0 19 rfl rfl)
theorem dX7_valueNow_20 : decode cX7_valueNow 20 = .ok (.istore_n 3, 1) := dk_62 (dk_at dksX7_valueNow_0 20 rfl rfl)
theorem dX7_valueNow_21 : decode cX7_valueNow 21 = .ok (.iload_n 3, 1) := dk_29 (dk_at dksX7_valueNow_0 21 rfl rfl)
theorem dX7_valueNow_22 : decode cX7_valueNow 22 = .ok (.bipush (-20), 2) := dk_16 236 (dk_at dksX7_valueNow_0 22 rfl rfl)
theorem dX7_valueNow_24 : decode cX7_valueNow 24 = .ok (.if_icmp .le 31, 3) := dk_164 0 31 (dk_at dksX7_valueNow_1 0 rfl rfl)
theorem dX7_valueNow_27 : decode cX7_valueNow 27 = .ok (.aload_n 0, 1) := dk_42 (dk_at dksX7_valueNow_1 3 rfl rfl)
theorem dX7_valueNow_28 : decode cX7_valueNow 28 = .ok (.getfield 94, 3) := dk_180 0 94 (dk_at dksX7_valueNow_1 4 rfl rfl)
theorem dX7_valueNow_31 : decode cX7_valueNow 31 = .ok (.iload_n 1, 1) := dk_27 (dk_at dksX7_valueNow_1 7 rfl rfl)
theorem dX7_valueNow_32 : decode cX7_valueNow 32 = .ok (.iload_n 3, 1) := dk_29 (dk_at dksX7_valueNow_1 8 rfl rfl)
theorem dX7_valueNow_33 : decode cX7_valueNow 33 = .ok (.ifCond .lt 7, 3) := dk_155 0 7 (dk_at dksX7_valueNow_1 9 rfl rfl)
theorem dX7_valueNow_36 : decode cX7_valueNow 36 = .ok (.iload_n 3, 1) := dk_29 (dk_at dksX7_valueNow_1 12 rfl rfl)
theorem dX7_valueNow_37 : decode cX7_valueNow 37 = .ok (.goto 11, 3) := dk_167 0 11 (dk_at dksX7_valueNow_1 13 rfl rfl)
theorem dX7_valueNow_40 : decode cX7_valueNow 40 = .ok (.aload_n 0, 1) := dk_42 (dk_at dksX7_valueNow_1 16 rfl rfl)
theorem dX7_valueNow_41 : decode cX7_valueNow 41 = .ok (.getfield 91, 3) := dk_180 0 91 (dk_at dksX7_valueNow_1 17 rfl rfl)
theorem dX7_valueNow_44 : decode cX7_valueNow 44 = .ok (.iconst (-1), 1) := dk_2 (dk_at dksX7_valueNow_1 20 rfl rfl)
theorem dX7_valueNow_45 : decode cX7_valueNow 45 = .ok (.iload_n 3, 1) := dk_29 (dk_at dksX7_valueNow_1 21 rfl rfl)
theorem dX7_valueNow_46 : decode cX7_valueNow 46 = .ok (.isub, 1) := dk_100 (dk_at dksX7_valueNow_1 22 rfl rfl)
theorem dX7_valueNow_47 : decode cX7_valueNow 47 = .ok (.iaload, 1) := dk_46 (dk_at dksX7_valueNow_1 23 rfl rfl)
theorem dX7_valueNow_48 : decode cX7_valueNow 48 = .ok (.iastore, 1) := dk_79 (dk_at dksX7_valueNow_2 0 rfl rfl)
theorem dX7_valueNow_49 : decode cX7_valueNow 49 = .ok (.iinc 1 1, 3) := dk_132 1 1 (dk_at dksX7_valueNow_2 1 rfl rfl)
theorem dX7_valueNow_52 : decode cX7_valueNow 52 = .ok (.goto 65, 3) := dk_167 0 65 (dk_at dksX7_valueNow_2 4 rfl rfl)
theorem dX7_valueNow_55 : decode cX7_valueNow 55 = .ok (.iload_n 3, 1) := dk_29 (dk_at dksX7_valueNow_2 7 rfl rfl)
theorem dX7_valueNow_56 : decode cX7_valueNow 56 = .ok (.bipush (-28), 2) := dk_16 228 (dk_at dksX7_valueNow_2 8 rfl rfl)
theorem dX7_valueNow_58 : decode cX7_valueNow 58 = .ok (.if_icmp .ne 30, 3) := dk_160 0 30 (dk_at dksX7_valueNow_2 10 rfl rfl)
theorem dX7_valueNow_61 : decode cX7_valueNow 61 = .ok (.aload_n 0, 1) := dk_42 (dk_at dksX7_valueNow_2 13 rfl rfl)
theorem dX7_valueNow_62 : decode cX7_valueNow 62 = .ok (.getfield 94, 3) := dk_180 0 94 (dk_at dksX7_valueNow_2 14 rfl rfl)
theorem dX7_valueNow_65 : decode cX7_valueNow 65 = .ok (.iload_n 1, 1) := dk_27 (dk_at dksX7_valueNow_2 17 rfl rfl)
theorem dX7_valueNow_66 : decode cX7_valueNow 66 = .ok (.iconst 1, 1) := dk_4 (dk_at dksX7_valueNow_2 18 rfl rfl)
theorem dX7_valueNow_67 : decode cX7_valueNow 67 = .ok (.isub, 1) := dk_100 (dk_at dksX7_valueNow_2 19 rfl rfl)
theorem dX7_valueNow_68 : decode cX7_valueNow 68 = .ok (.aload_n 0, 1) := dk_42 (dk_at dksX7_valueNow_2 20 rfl rfl)
theorem dX7_valueNow_69 : decode cX7_valueNow 69 = .ok (.getfield 94, 3) := dk_180 0 94 (dk_at dksX7_valueNow_2 21 rfl rfl)
theorem dX7_valueNow_72 : decode cX7_valueNow 72 = .ok (.iload_n 1, 1) := dk_27 (dk_at dksX7_valueNow_3 0 rfl rfl)
theorem dX7_valueNow_73 : decode cX7_valueNow 73 = .ok (.iconst 1, 1) := dk_4 (dk_at dksX7_valueNow_3 1 rfl rfl)
theorem dX7_valueNow_74 : decode cX7_valueNow 74 = .ok (.isub, 1) := dk_100 (dk_at dksX7_valueNow_3 2 rfl rfl)
theorem dX7_valueNow_75 : decode cX7_valueNow 75 = .ok (.iaload, 1) := dk_46 (dk_at dksX7_valueNow_3 3 rfl rfl)
theorem dX7_valueNow_76 : decode cX7_valueNow 76 = .ok (.ifCond .eq 7, 3) := dk_153 0 7 (dk_at dksX7_valueNow_3 4 rfl rfl)
theorem dX7_valueNow_79 : decode cX7_valueNow 79 = .ok (.iconst 0, 1) := dk_3 (dk_at dksX7_valueNow_3 7 rfl rfl)
theorem dX7_valueNow_80 : decode cX7_valueNow 80 = .ok (.goto 4, 3) := dk_167 0 4 (dk_at dksX7_valueNow_3 8 rfl rfl)
theorem dX7_valueNow_83 : decode cX7_valueNow 83 = .ok (.iconst 1, 1) := dk_4 (dk_at dksX7_valueNow_3 11 rfl rfl)
theorem dX7_valueNow_84 : decode cX7_valueNow 84 = .ok (.iastore, 1) := dk_79 (dk_at dksX7_valueNow_3 12 rfl rfl)
theorem dX7_valueNow_85 : decode cX7_valueNow 85 = .ok (.goto 32, 3) := dk_167 0 32 (dk_at dksX7_valueNow_3 13 rfl rfl)
theorem dX7_valueNow_88 : decode cX7_valueNow 88 = .ok (.iinc 1 (-1), 3) := dk_132 1 255 (dk_at dksX7_valueNow_3 16 rfl rfl)
theorem dX7_valueNow_91 : decode cX7_valueNow 91 = .ok (.aload_n 0, 1) := dk_42 (dk_at dksX7_valueNow_3 19 rfl rfl)
theorem dX7_valueNow_92 : decode cX7_valueNow 92 = .ok (.getfield 94, 3) := dk_180 0 94 (dk_at dksX7_valueNow_3 20 rfl rfl)
theorem dX7_valueNow_95 : decode cX7_valueNow 95 = .ok (.iload_n 1, 1) := dk_27 (dk_at dksX7_valueNow_3 23 rfl rfl)
theorem dX7_valueNow_96 : decode cX7_valueNow 96 = .ok (.iconst 1, 1) := dk_4 (dk_at dksX7_valueNow_4 0 rfl rfl)
theorem dX7_valueNow_97 : decode cX7_valueNow 97 = .ok (.isub, 1) := dk_100 (dk_at dksX7_valueNow_4 1 rfl rfl)
theorem dX7_valueNow_98 : decode cX7_valueNow 98 = .ok (.iload_n 3, 1) := dk_29 (dk_at dksX7_valueNow_4 2 rfl rfl)
theorem dX7_valueNow_99 : decode cX7_valueNow 99 = .ok (.aload_n 0, 1) := dk_42 (dk_at dksX7_valueNow_4 3 rfl rfl)
theorem dX7_valueNow_100 : decode cX7_valueNow 100 = .ok (.getfield 94, 3) := dk_180 0 94 (dk_at dksX7_valueNow_4 4 rfl rfl)
theorem dX7_valueNow_103 : decode cX7_valueNow 103 = .ok (.iload_n 1, 1) := dk_27 (dk_at dksX7_valueNow_4 7 rfl rfl)
theorem dX7_valueNow_104 : decode cX7_valueNow 104 = .ok (.iconst 1, 1) := dk_4 (dk_at dksX7_valueNow_4 8 rfl rfl)
theorem dX7_valueNow_105 : decode cX7_valueNow 105 = .ok (.isub, 1) := dk_100 (dk_at dksX7_valueNow_4 9 rfl rfl)
theorem dX7_valueNow_106 : decode cX7_valueNow 106 = .ok (.iaload, 1) := dk_46 (dk_at dksX7_valueNow_4 10 rfl rfl)
theorem dX7_valueNow_107 : decode cX7_valueNow 107 = .ok (.aload_n 0, 1) := dk_42 (dk_at dksX7_valueNow_4 11 rfl rfl)
theorem dX7_valueNow_108 : decode cX7_valueNow 108 = .ok (.getfield 94, 3) := dk_180 0 94 (dk_at dksX7_valueNow_4 12 rfl rfl)
theorem dX7_valueNow_111 : decode cX7_valueNow 111 = .ok (.iload_n 1, 1) := dk_27 (dk_at dksX7_valueNow_4 15 rfl rfl)
theorem dX7_valueNow_112 : decode cX7_valueNow 112 = .ok (.iaload, 1) := dk_46 (dk_at dksX7_valueNow_4 16 rfl rfl)
theorem dX7_valueNow_113 : decode cX7_valueNow 113 = .ok (.invokestatic 367, 3) := dk_184 1 111 (dk_at dksX7_valueNow_4 17 rfl rfl)
theorem dX7_valueNow_116 : decode cX7_valueNow 116 = .ok (.iastore, 1) := dk_79 (dk_at dksX7_valueNow_4 20 rfl rfl)
theorem dX7_valueNow_117 : decode cX7_valueNow 117 = .ok (.iinc 2 1, 3) := dk_132 2 1 (dk_at dksX7_valueNow_4 21 rfl rfl)
theorem dX7_valueNow_120 : decode cX7_valueNow 120 = .ok (.goto (-116), 3) := dk_167 255 140 (dk_at dksX7_valueNow_5 0 rfl rfl)
theorem dX7_valueNow_123 : decode cX7_valueNow 123 = .ok (.aload_n 0, 1) := dk_42 (dk_at dksX7_valueNow_5 3 rfl rfl)
theorem dX7_valueNow_124 : decode cX7_valueNow 124 = .ok (.getfield 94, 3) := dk_180 0 94 (dk_at dksX7_valueNow_5 4 rfl rfl)
theorem dX7_valueNow_127 : decode cX7_valueNow 127 = .ok (.iconst 0, 1) := dk_3 (dk_at dksX7_valueNow_5 7 rfl rfl)
theorem dX7_valueNow_128 : decode cX7_valueNow 128 = .ok (.iaload, 1) := dk_46 (dk_at dksX7_valueNow_5 8 rfl rfl)
theorem dX7_valueNow_129 : decode cX7_valueNow 129 = .ok (.ireturn, 1) := dk_172 (dk_at dksX7_valueNow_5 9 rfl rfl)
abbrev cX7_reckon : ByteArray := prog_21_method_52_code
def yX7_reckon : MethodName := ⟨RX7, "reckon", "(III)I"⟩
def dkwX7_reckon_5 : List UInt8 := [167, 0, 4, 3, 172]
abbrev dktX7_reckon_5 : List UInt8 := dkwX7_reckon_5 ++ []
def dkwX7_reckon_4 : List UInt8 := [153, 0, 11, 28, 153, 0, 7, 4, 167, 0, 4, 3, 172, 27, 154, 0, 7, 28, 153, 0, 7, 4]
abbrev dktX7_reckon_4 : List UInt8 := dkwX7_reckon_4 ++ dktX7_reckon_5
def dkwX7_reckon_3 : List UInt8 := [27, 28, 162, 0, 7, 4, 167, 0, 4, 3, 172, 27, 28, 160, 0, 7, 4, 167, 0, 4, 3, 172, 27]
abbrev dktX7_reckon_3 : List UInt8 := dkwX7_reckon_3 ++ dktX7_reckon_4
def dkwX7_reckon_2 : List UInt8 := [27, 28, 96, 172, 27, 28, 100, 172, 27, 28, 104, 172, 28, 154, 0, 7, 3, 167, 0, 6, 27, 28, 108, 172]
abbrev dktX7_reckon_2 : List UInt8 := dkwX7_reckon_2 ++ dktX7_reckon_3
def dkwX7_reckon_1 : List UInt8 := [170, 0, 0, 0, 0, 0, 103, 255, 255, 255, 230, 255, 255, 255, 236, 0, 0, 0, 89, 0, 0, 0, 78, 0, 0, 0, 67, 0, 0, 0, 55, 0, 0, 0, 51, 0, 0, 0, 47, 0, 0, 0, 43]
abbrev dktX7_reckon_1 : List UInt8 := dkwX7_reckon_1 ++ dktX7_reckon_2
def dkwX7_reckon_0 : List UInt8 := [26]
abbrev dktX7_reckon_0 : List UInt8 := dkwX7_reckon_0 ++ dktX7_reckon_1
theorem dksX7_reckon_0 : cX7_reckon.data.toList.drop 0 = dktX7_reckon_0 := by decide +kernel
theorem dksX7_reckon_1 : cX7_reckon.data.toList.drop 1 = dktX7_reckon_1 := dk_seg dksX7_reckon_0 1 rfl rfl
theorem dksX7_reckon_2 : cX7_reckon.data.toList.drop 44 = dktX7_reckon_2 := dk_seg dksX7_reckon_1 43 rfl rfl
theorem dksX7_reckon_3 : cX7_reckon.data.toList.drop 68 = dktX7_reckon_3 := dk_seg dksX7_reckon_2 24 rfl rfl
theorem dksX7_reckon_4 : cX7_reckon.data.toList.drop 91 = dktX7_reckon_4 := dk_seg dksX7_reckon_3 23 rfl rfl
theorem dksX7_reckon_5 : cX7_reckon.data.toList.drop 113 = dktX7_reckon_5 := dk_seg dksX7_reckon_4 22 rfl rfl
theorem dX7_reckon_0 : decode cX7_reckon 0 = .ok (.iload_n 0, 1) := dk_26 (dk_at dksX7_reckon_0 0 rfl rfl)
theorem dX7_reckon_1 : decode cX7_reckon 1 = .ok (.tableswitch 103 (-26) (-20) #[89, 78, 67, 55, 51, 47, 43], 43) := by decide +kernel
theorem dX7_reckon_44 : decode cX7_reckon 44 = .ok (.iload_n 1, 1) := dk_27 (dk_at dksX7_reckon_2 0 rfl rfl)
theorem dX7_reckon_45 : decode cX7_reckon 45 = .ok (.iload_n 2, 1) := dk_28 (dk_at dksX7_reckon_2 1 rfl rfl)
theorem dX7_reckon_46 : decode cX7_reckon 46 = .ok (.iadd, 1) := dk_96 (dk_at dksX7_reckon_2 2 rfl rfl)
theorem dX7_reckon_47 : decode cX7_reckon 47 = .ok (.ireturn, 1) := dk_172 (dk_at dksX7_reckon_2 3 rfl rfl)
theorem dX7_reckon_48 : decode cX7_reckon 48 = .ok (.iload_n 1, 1) := dk_27 (dk_at dksX7_reckon_2 4 rfl rfl)
theorem dX7_reckon_49 : decode cX7_reckon 49 = .ok (.iload_n 2, 1) := dk_28 (dk_at dksX7_reckon_2 5 rfl rfl)
theorem dX7_reckon_50 : decode cX7_reckon 50 = .ok (.isub, 1) := dk_100 (dk_at dksX7_reckon_2 6 rfl rfl)
theorem dX7_reckon_51 : decode cX7_reckon 51 = .ok (.ireturn, 1) := dk_172 (dk_at dksX7_reckon_2 7 rfl rfl)
theorem dX7_reckon_52 : decode cX7_reckon 52 = .ok (.iload_n 1, 1) := dk_27 (dk_at dksX7_reckon_2 8 rfl rfl)
theorem dX7_reckon_53 : decode cX7_reckon 53 = .ok (.iload_n 2, 1) := dk_28 (dk_at dksX7_reckon_2 9 rfl rfl)
theorem dX7_reckon_54 : decode cX7_reckon 54 = .ok (.imul, 1) := dk_104 (dk_at dksX7_reckon_2 10 rfl rfl)
theorem dX7_reckon_55 : decode cX7_reckon 55 = .ok (.ireturn, 1) := dk_172 (dk_at dksX7_reckon_2 11 rfl rfl)
theorem dX7_reckon_56 : decode cX7_reckon 56 = .ok (.iload_n 2, 1) := dk_28 (dk_at dksX7_reckon_2 12 rfl rfl)
theorem dX7_reckon_57 : decode cX7_reckon 57 = .ok (.ifCond .ne 7, 3) := dk_154 0 7 (dk_at dksX7_reckon_2 13 rfl rfl)
theorem dX7_reckon_60 : decode cX7_reckon 60 = .ok (.iconst 0, 1) := dk_3 (dk_at dksX7_reckon_2 16 rfl rfl)
theorem dX7_reckon_61 : decode cX7_reckon 61 = .ok (.goto 6, 3) := dk_167 0 6 (dk_at dksX7_reckon_2 17 rfl rfl)
theorem dX7_reckon_64 : decode cX7_reckon 64 = .ok (.iload_n 1, 1) := dk_27 (dk_at dksX7_reckon_2 20 rfl rfl)
theorem dX7_reckon_65 : decode cX7_reckon 65 = .ok (.iload_n 2, 1) := dk_28 (dk_at dksX7_reckon_2 21 rfl rfl)
theorem dX7_reckon_66 : decode cX7_reckon 66 = .ok (.idiv, 1) := dk_108 (dk_at dksX7_reckon_2 22 rfl rfl)
theorem dX7_reckon_67 : decode cX7_reckon 67 = .ok (.ireturn, 1) := dk_172 (dk_at dksX7_reckon_2 23 rfl rfl)
theorem dX7_reckon_68 : decode cX7_reckon 68 = .ok (.iload_n 1, 1) := dk_27 (dk_at dksX7_reckon_3 0 rfl rfl)
theorem dX7_reckon_69 : decode cX7_reckon 69 = .ok (.iload_n 2, 1) := dk_28 (dk_at dksX7_reckon_3 1 rfl rfl)
theorem dX7_reckon_70 : decode cX7_reckon 70 = .ok (.if_icmp .ge 7, 3) := dk_162 0 7 (dk_at dksX7_reckon_3 2 rfl rfl)
theorem dX7_reckon_73 : decode cX7_reckon 73 = .ok (.iconst 1, 1) := dk_4 (dk_at dksX7_reckon_3 5 rfl rfl)
theorem dX7_reckon_74 : decode cX7_reckon 74 = .ok (.goto 4, 3) := dk_167 0 4 (dk_at dksX7_reckon_3 6 rfl rfl)
theorem dX7_reckon_77 : decode cX7_reckon 77 = .ok (.iconst 0, 1) := dk_3 (dk_at dksX7_reckon_3 9 rfl rfl)
theorem dX7_reckon_78 : decode cX7_reckon 78 = .ok (.ireturn, 1) := dk_172 (dk_at dksX7_reckon_3 10 rfl rfl)
theorem dX7_reckon_79 : decode cX7_reckon 79 = .ok (.iload_n 1, 1) := dk_27 (dk_at dksX7_reckon_3 11 rfl rfl)
theorem dX7_reckon_80 : decode cX7_reckon 80 = .ok (.iload_n 2, 1) := dk_28 (dk_at dksX7_reckon_3 12 rfl rfl)
theorem dX7_reckon_81 : decode cX7_reckon 81 = .ok (.if_icmp .ne 7, 3) := dk_160 0 7 (dk_at dksX7_reckon_3 13 rfl rfl)
theorem dX7_reckon_84 : decode cX7_reckon 84 = .ok (.iconst 1, 1) := dk_4 (dk_at dksX7_reckon_3 16 rfl rfl)
theorem dX7_reckon_85 : decode cX7_reckon 85 = .ok (.goto 4, 3) := dk_167 0 4 (dk_at dksX7_reckon_3 17 rfl rfl)
theorem dX7_reckon_88 : decode cX7_reckon 88 = .ok (.iconst 0, 1) := dk_3 (dk_at dksX7_reckon_3 20 rfl rfl)
theorem dX7_reckon_89 : decode cX7_reckon 89 = .ok (.ireturn, 1) := dk_172 (dk_at dksX7_reckon_3 21 rfl rfl)
theorem dX7_reckon_90 : decode cX7_reckon 90 = .ok (.iload_n 1, 1) := dk_27 (dk_at dksX7_reckon_3 22 rfl rfl)
theorem dX7_reckon_91 : decode cX7_reckon 91 = .ok (.ifCond .eq 11, 3) := dk_153 0 11 (dk_at dksX7_reckon_4 0 rfl rfl)
theorem dX7_reckon_94 : decode cX7_reckon 94 = .ok (.iload_n 2, 1) := dk_28 (dk_at dksX7_reckon_4 3 rfl rfl)
theorem dX7_reckon_95 : decode cX7_reckon 95 = .ok (.ifCond .eq 7, 3) := dk_153 0 7 (dk_at dksX7_reckon_4 4 rfl rfl)
theorem dX7_reckon_98 : decode cX7_reckon 98 = .ok (.iconst 1, 1) := dk_4 (dk_at dksX7_reckon_4 7 rfl rfl)
theorem dX7_reckon_99 : decode cX7_reckon 99 = .ok (.goto 4, 3) := dk_167 0 4 (dk_at dksX7_reckon_4 8 rfl rfl)
theorem dX7_reckon_102 : decode cX7_reckon 102 = .ok (.iconst 0, 1) := dk_3 (dk_at dksX7_reckon_4 11 rfl rfl)
theorem dX7_reckon_103 : decode cX7_reckon 103 = .ok (.ireturn, 1) := dk_172 (dk_at dksX7_reckon_4 12 rfl rfl)
theorem dX7_reckon_104 : decode cX7_reckon 104 = .ok (.iload_n 1, 1) := dk_27 (dk_at dksX7_reckon_4 13 rfl rfl)
theorem dX7_reckon_105 : decode cX7_reckon 105 = .ok (.ifCond .ne 7, 3) := dk_154 0 7 (dk_at dksX7_reckon_4 14 rfl rfl)
theorem dX7_reckon_108 : decode cX7_reckon 108 = .ok (.iload_n 2, 1) := dk_28 (dk_at dksX7_reckon_4 17 rfl rfl)
theorem dX7_reckon_109 : decode cX7_reckon 109 = .ok (.ifCond .eq 7, 3) := dk_153 0 7 (dk_at dksX7_reckon_4 18 rfl rfl)
theorem dX7_reckon_112 : decode cX7_reckon 112 = .ok (.iconst 1, 1) := dk_4 (dk_at dksX7_reckon_4 21 rfl rfl)
theorem dX7_reckon_113 : decode cX7_reckon 113 = .ok (.goto 4, 3) := dk_167 0 4 (dk_at dksX7_reckon_5 0 rfl rfl)
theorem dX7_reckon_116 : decode cX7_reckon 116 = .ok (.iconst 0, 1) := dk_3 (dk_at dksX7_reckon_5 3 rfl rfl)
theorem dX7_reckon_117 : decode cX7_reckon 117 = .ok (.ireturn, 1) := dk_172 (dk_at dksX7_reckon_5 4 rfl rfl)
abbrev cX7_cut : ByteArray := prog_21_method_68_code
def yX7_cut : MethodName := ⟨RX7, "cut", "(II)Z"⟩
def dkwX7_cut_2 : List UInt8 := [172, 42, 182, 1, 155, 42, 180, 0, 83, 28, 27, 79, 4, 172]
abbrev dktX7_cut_2 : List UInt8 := dkwX7_cut_2 ++ []
def dkwX7_cut_1 : List UInt8 := [182, 1, 142, 172, 42, 27, 28, 182, 1, 105, 153, 0, 15, 42, 180, 0, 73, 4, 92, 46, 4, 96, 79, 3]
abbrev dktX7_cut_1 : List UInt8 := dkwX7_cut_1 ++ dktX7_cut_2
def dkwX7_cut_0 : List UInt8 := [42, 3, 181, 0, 159, 42, 27, 182, 1, 133, 153, 0, 11, 42, 28, 182, 1, 136, 154, 0, 9, 42, 4]
abbrev dktX7_cut_0 : List UInt8 := dkwX7_cut_0 ++ dktX7_cut_1
theorem dksX7_cut_0 : cX7_cut.data.toList.drop 0 = dktX7_cut_0 := by decide +kernel
theorem dksX7_cut_1 : cX7_cut.data.toList.drop 23 = dktX7_cut_1 := dk_seg dksX7_cut_0 23 rfl rfl
theorem dksX7_cut_2 : cX7_cut.data.toList.drop 47 = dktX7_cut_2 := dk_seg dksX7_cut_1 24 rfl rfl
theorem dX7_cut_0 : decode cX7_cut 0 = .ok (.aload_n 0, 1) := dk_42 (dk_at dksX7_cut_0 0 rfl rfl)
theorem dX7_cut_1 : decode cX7_cut 1 = .ok (.iconst 0, 1) := dk_3 (dk_at dksX7_cut_0 1 rfl rfl)
theorem dX7_cut_2 : decode cX7_cut 2 = .ok (.putfield 159, 3) := dk_181 0 159 (dk_at dksX7_cut_0 2 rfl rfl)
theorem dX7_cut_5 : decode cX7_cut 5 = .ok (.aload_n 0, 1) := dk_42 (dk_at dksX7_cut_0 5 rfl rfl)
theorem dX7_cut_6 : decode cX7_cut 6 = .ok (.iload_n 1, 1) := dk_27 (dk_at dksX7_cut_0 6 rfl rfl)
theorem dX7_cut_7 : decode cX7_cut 7 = .ok (.invokevirtual 389, 3) := dk_182 1 133 (dk_at dksX7_cut_0 7 rfl rfl)
theorem dX7_cut_10 : decode cX7_cut 10 = .ok (.ifCond .eq 11, 3) := dk_153 0 11 (dk_at dksX7_cut_0 10 rfl rfl)
theorem dX7_cut_13 : decode cX7_cut 13 = .ok (.aload_n 0, 1) := dk_42 (dk_at dksX7_cut_0 13 rfl rfl)
theorem dX7_cut_14 : decode cX7_cut 14 = .ok (.iload_n 2, 1) := dk_28 (dk_at dksX7_cut_0 14 rfl rfl)
theorem dX7_cut_15 : decode cX7_cut 15 = .ok (.invokevirtual 392, 3) := dk_182 1 136 (dk_at dksX7_cut_0 15 rfl rfl)
theorem dX7_cut_18 : decode cX7_cut 18 = .ok (.ifCond .ne 9, 3) := dk_154 0 9 (dk_at dksX7_cut_0 18 rfl rfl)
theorem dX7_cut_21 : decode cX7_cut 21 = .ok (.aload_n 0, 1) := dk_42 (dk_at dksX7_cut_0 21 rfl rfl)
theorem dX7_cut_22 : decode cX7_cut 22 = .ok (.iconst 1, 1) := dk_4 (dk_at dksX7_cut_0 22 rfl rfl)
theorem dX7_cut_23 : decode cX7_cut 23 = .ok (.invokevirtual 398, 3) := dk_182 1 142 (dk_at dksX7_cut_1 0 rfl rfl)
theorem dX7_cut_26 : decode cX7_cut 26 = .ok (.ireturn, 1) := dk_172 (dk_at dksX7_cut_1 3 rfl rfl)
theorem dX7_cut_27 : decode cX7_cut 27 = .ok (.aload_n 0, 1) := dk_42 (dk_at dksX7_cut_1 4 rfl rfl)
theorem dX7_cut_28 : decode cX7_cut 28 = .ok (.iload_n 1, 1) := dk_27 (dk_at dksX7_cut_1 5 rfl rfl)
theorem dX7_cut_29 : decode cX7_cut 29 = .ok (.iload_n 2, 1) := dk_28 (dk_at dksX7_cut_1 6 rfl rfl)
theorem dX7_cut_30 : decode cX7_cut 30 = .ok (.invokevirtual 361, 3) := dk_182 1 105 (dk_at dksX7_cut_1 7 rfl rfl)
theorem dX7_cut_33 : decode cX7_cut 33 = .ok (.ifCond .eq 15, 3) := dk_153 0 15 (dk_at dksX7_cut_1 10 rfl rfl)
theorem dX7_cut_36 : decode cX7_cut 36 = .ok (.aload_n 0, 1) := dk_42 (dk_at dksX7_cut_1 13 rfl rfl)
theorem dX7_cut_37 : decode cX7_cut 37 = .ok (.getfield 73, 3) := dk_180 0 73 (dk_at dksX7_cut_1 14 rfl rfl)
theorem dX7_cut_40 : decode cX7_cut 40 = .ok (.iconst 1, 1) := dk_4 (dk_at dksX7_cut_1 17 rfl rfl)
theorem dX7_cut_41 : decode cX7_cut 41 = .ok (.dup2, 1) := dk_92 (dk_at dksX7_cut_1 18 rfl rfl)
theorem dX7_cut_42 : decode cX7_cut 42 = .ok (.iaload, 1) := dk_46 (dk_at dksX7_cut_1 19 rfl rfl)
theorem dX7_cut_43 : decode cX7_cut 43 = .ok (.iconst 1, 1) := dk_4 (dk_at dksX7_cut_1 20 rfl rfl)
theorem dX7_cut_44 : decode cX7_cut 44 = .ok (.iadd, 1) := dk_96 (dk_at dksX7_cut_1 21 rfl rfl)
theorem dX7_cut_45 : decode cX7_cut 45 = .ok (.iastore, 1) := dk_79 (dk_at dksX7_cut_1 22 rfl rfl)
theorem dX7_cut_46 : decode cX7_cut 46 = .ok (.iconst 0, 1) := dk_3 (dk_at dksX7_cut_1 23 rfl rfl)
theorem dX7_cut_47 : decode cX7_cut 47 = .ok (.ireturn, 1) := dk_172 (dk_at dksX7_cut_2 0 rfl rfl)
theorem dX7_cut_48 : decode cX7_cut 48 = .ok (.aload_n 0, 1) := dk_42 (dk_at dksX7_cut_2 1 rfl rfl)
theorem dX7_cut_49 : decode cX7_cut 49 = .ok (.invokevirtual 411, 3) := dk_182 1 155 (dk_at dksX7_cut_2 2 rfl rfl)
theorem dX7_cut_52 : decode cX7_cut 52 = .ok (.aload_n 0, 1) := dk_42 (dk_at dksX7_cut_2 5 rfl rfl)
theorem dX7_cut_53 : decode cX7_cut 53 = .ok (.getfield 83, 3) := dk_180 0 83 (dk_at dksX7_cut_2 6 rfl rfl)
theorem dX7_cut_56 : decode cX7_cut 56 = .ok (.iload_n 2, 1) := dk_28 (dk_at dksX7_cut_2 9 rfl rfl)
theorem dX7_cut_57 : decode cX7_cut 57 = .ok (.iload_n 1, 1) := dk_27 (dk_at dksX7_cut_2 10 rfl rfl)
theorem dX7_cut_58 : decode cX7_cut 58 = .ok (.iastore, 1) := dk_79 (dk_at dksX7_cut_2 11 rfl rfl)
theorem dX7_cut_59 : decode cX7_cut 59 = .ok (.iconst 1, 1) := dk_4 (dk_at dksX7_cut_2 12 rfl rfl)
theorem dX7_cut_60 : decode cX7_cut 60 = .ok (.ireturn, 1) := dk_172 (dk_at dksX7_cut_2 13 rfl rfl)
abbrev cX7_keep : ByteArray := prog_21_method_67_code
def yX7_keep : MethodName := ⟨RX7, "keep", "()V"⟩
def dkwX7_keep_3 : List UInt8 := [89, 180, 1, 71, 4, 96, 181, 1, 71, 177]
abbrev dktX7_keep_3 : List UInt8 := dkwX7_keep_3 ++ []
def dkwX7_keep_2 : List UInt8 := [180, 1, 71, 4, 100, 181, 1, 71, 42, 42, 180, 0, 88, 16, 80, 42, 180, 1, 71, 104, 182, 1, 151, 42]
abbrev dktX7_keep_2 : List UInt8 := dkwX7_keep_2 ++ dktX7_keep_3
def dkwX7_keep_1 : List UInt8 := [180, 0, 88, 27, 16, 80, 100, 42, 180, 0, 88, 27, 46, 79, 132, 1, 1, 167, 255, 229, 42, 89]
abbrev dktX7_keep_1 : List UInt8 := dkwX7_keep_1 ++ dktX7_keep_2
def dkwX7_keep_0 : List UInt8 := [42, 180, 1, 71, 16, 40, 160, 0, 46, 16, 80, 60, 27, 42, 180, 0, 88, 190, 162, 0, 24, 42]
abbrev dktX7_keep_0 : List UInt8 := dkwX7_keep_0 ++ dktX7_keep_1
theorem dksX7_keep_0 : cX7_keep.data.toList.drop 0 = dktX7_keep_0 := by decide +kernel
theorem dksX7_keep_1 : cX7_keep.data.toList.drop 22 = dktX7_keep_1 := dk_seg dksX7_keep_0 22 rfl rfl
theorem dksX7_keep_2 : cX7_keep.data.toList.drop 44 = dktX7_keep_2 := dk_seg dksX7_keep_1 22 rfl rfl
theorem dksX7_keep_3 : cX7_keep.data.toList.drop 68 = dktX7_keep_3 := dk_seg dksX7_keep_2 24 rfl rfl
theorem dX7_keep_0 : decode cX7_keep 0 = .ok (.aload_n 0, 1) := dk_42 (dk_at dksX7_keep_0 0 rfl rfl)
theorem dX7_keep_1 : decode cX7_keep 1 = .ok (.getfield 327, 3) := dk_180 1 71 (dk_at dksX7_keep_0 1 rfl rfl)
theorem dX7_keep_4 : decode cX7_keep 4 = .ok (.bipush 40, 2) := dk_16 40 (dk_at dksX7_keep_0 4 rfl rfl)
theorem dX7_keep_6 : decode cX7_keep 6 = .ok (.if_icmp .ne 46, 3) := dk_160 0 46 (dk_at dksX7_keep_0 6 rfl rfl)
theorem dX7_keep_9 : decode cX7_keep 9 = .ok (.bipush 80, 2) := dk_16 80 (dk_at dksX7_keep_0 9 rfl rfl)
theorem dX7_keep_11 : decode cX7_keep 11 = .ok (.istore_n 1, 1) := dk_60 (dk_at dksX7_keep_0 11 rfl rfl)
theorem dX7_keep_12 : decode cX7_keep 12 = .ok (.iload_n 1, 1) := dk_27 (dk_at dksX7_keep_0 12 rfl rfl)
theorem dX7_keep_13 : decode cX7_keep 13 = .ok (.aload_n 0, 1) := dk_42 (dk_at dksX7_keep_0 13 rfl rfl)
theorem dX7_keep_14 : decode cX7_keep 14 = .ok (.getfield 88, 3) := dk_180 0 88 (dk_at dksX7_keep_0 14 rfl rfl)
theorem dX7_keep_17 : decode cX7_keep 17 = .ok (.arraylength, 1) := dk_190 (dk_at dksX7_keep_0 17 rfl rfl)
theorem dX7_keep_18 : decode cX7_keep 18 = .ok (.if_icmp .ge 24, 3) := dk_162 0 24 (dk_at dksX7_keep_0 18 rfl rfl)
theorem dX7_keep_21 : decode cX7_keep 21 = .ok (.aload_n 0, 1) := dk_42 (dk_at dksX7_keep_0 21 rfl rfl)
theorem dX7_keep_22 : decode cX7_keep 22 = .ok (.getfield 88, 3) := dk_180 0 88 (dk_at dksX7_keep_1 0 rfl rfl)
theorem dX7_keep_25 : decode cX7_keep 25 = .ok (.iload_n 1, 1) := dk_27 (dk_at dksX7_keep_1 3 rfl rfl)
theorem dX7_keep_26 : decode cX7_keep 26 = .ok (.bipush 80, 2) := dk_16 80 (dk_at dksX7_keep_1 4 rfl rfl)
theorem dX7_keep_28 : decode cX7_keep 28 = .ok (.isub, 1) := dk_100 (dk_at dksX7_keep_1 6 rfl rfl)
theorem dX7_keep_29 : decode cX7_keep 29 = .ok (.aload_n 0, 1) := dk_42 (dk_at dksX7_keep_1 7 rfl rfl)
theorem dX7_keep_30 : decode cX7_keep 30 = .ok (.getfield 88, 3) := dk_180 0 88 (dk_at dksX7_keep_1 8 rfl rfl)
theorem dX7_keep_33 : decode cX7_keep 33 = .ok (.iload_n 1, 1) := dk_27 (dk_at dksX7_keep_1 11 rfl rfl)
theorem dX7_keep_34 : decode cX7_keep 34 = .ok (.iaload, 1) := dk_46 (dk_at dksX7_keep_1 12 rfl rfl)
theorem dX7_keep_35 : decode cX7_keep 35 = .ok (.iastore, 1) := dk_79 (dk_at dksX7_keep_1 13 rfl rfl)
theorem dX7_keep_36 : decode cX7_keep 36 = .ok (.iinc 1 1, 3) := dk_132 1 1 (dk_at dksX7_keep_1 14 rfl rfl)
theorem dX7_keep_39 : decode cX7_keep 39 = .ok (.goto (-27), 3) := dk_167 255 229 (dk_at dksX7_keep_1 17 rfl rfl)
theorem dX7_keep_42 : decode cX7_keep 42 = .ok (.aload_n 0, 1) := dk_42 (dk_at dksX7_keep_1 20 rfl rfl)
theorem dX7_keep_43 : decode cX7_keep 43 = .ok (.dup, 1) := dk_89 (dk_at dksX7_keep_1 21 rfl rfl)
theorem dX7_keep_44 : decode cX7_keep 44 = .ok (.getfield 327, 3) := dk_180 1 71 (dk_at dksX7_keep_2 0 rfl rfl)
theorem dX7_keep_47 : decode cX7_keep 47 = .ok (.iconst 1, 1) := dk_4 (dk_at dksX7_keep_2 3 rfl rfl)
theorem dX7_keep_48 : decode cX7_keep 48 = .ok (.isub, 1) := dk_100 (dk_at dksX7_keep_2 4 rfl rfl)
theorem dX7_keep_49 : decode cX7_keep 49 = .ok (.putfield 327, 3) := dk_181 1 71 (dk_at dksX7_keep_2 5 rfl rfl)
theorem dX7_keep_52 : decode cX7_keep 52 = .ok (.aload_n 0, 1) := dk_42 (dk_at dksX7_keep_2 8 rfl rfl)
theorem dX7_keep_53 : decode cX7_keep 53 = .ok (.aload_n 0, 1) := dk_42 (dk_at dksX7_keep_2 9 rfl rfl)
theorem dX7_keep_54 : decode cX7_keep 54 = .ok (.getfield 88, 3) := dk_180 0 88 (dk_at dksX7_keep_2 10 rfl rfl)
theorem dX7_keep_57 : decode cX7_keep 57 = .ok (.bipush 80, 2) := dk_16 80 (dk_at dksX7_keep_2 13 rfl rfl)
theorem dX7_keep_59 : decode cX7_keep 59 = .ok (.aload_n 0, 1) := dk_42 (dk_at dksX7_keep_2 15 rfl rfl)
theorem dX7_keep_60 : decode cX7_keep 60 = .ok (.getfield 327, 3) := dk_180 1 71 (dk_at dksX7_keep_2 16 rfl rfl)
theorem dX7_keep_63 : decode cX7_keep 63 = .ok (.imul, 1) := dk_104 (dk_at dksX7_keep_2 19 rfl rfl)
theorem dX7_keep_64 : decode cX7_keep 64 = .ok (.invokevirtual 407, 3) := dk_182 1 151 (dk_at dksX7_keep_2 20 rfl rfl)
theorem dX7_keep_67 : decode cX7_keep 67 = .ok (.aload_n 0, 1) := dk_42 (dk_at dksX7_keep_2 23 rfl rfl)
theorem dX7_keep_68 : decode cX7_keep 68 = .ok (.dup, 1) := dk_89 (dk_at dksX7_keep_3 0 rfl rfl)
theorem dX7_keep_69 : decode cX7_keep 69 = .ok (.getfield 327, 3) := dk_180 1 71 (dk_at dksX7_keep_3 1 rfl rfl)
theorem dX7_keep_72 : decode cX7_keep 72 = .ok (.iconst 1, 1) := dk_4 (dk_at dksX7_keep_3 4 rfl rfl)
theorem dX7_keep_73 : decode cX7_keep 73 = .ok (.iadd, 1) := dk_96 (dk_at dksX7_keep_3 5 rfl rfl)
theorem dX7_keep_74 : decode cX7_keep 74 = .ok (.putfield 327, 3) := dk_181 1 71 (dk_at dksX7_keep_3 6 rfl rfl)
theorem dX7_keep_77 : decode cX7_keep 77 = .ok (.return_, 1) := dk_177 (dk_at dksX7_keep_3 9 rfl rfl)
abbrev cX7_pack : ByteArray := prog_21_method_39_code
def yX7_pack : MethodName := ⟨RX7, "pack", "([II)V"⟩
def dkwX7_pack_4 : List UInt8 := [29, 16, 6, 96, 21, 4, 96, 42, 180, 0, 86, 21, 4, 46, 79, 132, 4, 1, 167, 255, 230, 177]
abbrev dktX7_pack_4 : List UInt8 := dkwX7_pack_4 ++ []
def dkwX7_pack_3 : List UInt8 := [180, 0, 83, 21, 4, 46, 79, 132, 4, 1, 167, 255, 233, 3, 54, 4, 21, 4, 16, 8, 162, 0, 25, 43]
abbrev dktX7_pack_3 : List UInt8 := dkwX7_pack_3 ++ dktX7_pack_4
def dkwX7_pack_2 : List UInt8 := [167, 255, 233, 132, 3, 64, 3, 54, 4, 21, 4, 16, 6, 162, 0, 22, 43, 29, 21, 4, 96, 42]
abbrev dktX7_pack_2 : List UInt8 := dkwX7_pack_2 ++ dktX7_pack_3
def dkwX7_pack_1 : List UInt8 := [21, 4, 16, 64, 162, 0, 22, 43, 29, 21, 4, 96, 42, 180, 0, 67, 21, 4, 46, 79, 132, 4, 1]
abbrev dktX7_pack_1 : List UInt8 := dkwX7_pack_1 ++ dktX7_pack_2
def dkwX7_pack_0 : List UInt8 := [43, 28, 42, 180, 1, 65, 79, 43, 28, 4, 96, 42, 180, 1, 68, 79, 28, 5, 96, 62, 3, 54, 4]
abbrev dktX7_pack_0 : List UInt8 := dkwX7_pack_0 ++ dktX7_pack_1
theorem dksX7_pack_0 : cX7_pack.data.toList.drop 0 = dktX7_pack_0 := by decide +kernel
theorem dksX7_pack_1 : cX7_pack.data.toList.drop 23 = dktX7_pack_1 := dk_seg dksX7_pack_0 23 rfl rfl
theorem dksX7_pack_2 : cX7_pack.data.toList.drop 46 = dktX7_pack_2 := dk_seg dksX7_pack_1 23 rfl rfl
theorem dksX7_pack_3 : cX7_pack.data.toList.drop 68 = dktX7_pack_3 := dk_seg dksX7_pack_2 22 rfl rfl
theorem dksX7_pack_4 : cX7_pack.data.toList.drop 92 = dktX7_pack_4 := dk_seg dksX7_pack_3 24 rfl rfl
theorem dX7_pack_0 : decode cX7_pack 0 = .ok (.aload_n 1, 1) := dk_43 (dk_at dksX7_pack_0 0 rfl rfl)
theorem dX7_pack_1 : decode cX7_pack 1 = .ok (.iload_n 2, 1) := dk_28 (dk_at dksX7_pack_0 1 rfl rfl)
theorem dX7_pack_2 : decode cX7_pack 2 = .ok (.aload_n 0, 1) := dk_42 (dk_at dksX7_pack_0 2 rfl rfl)
theorem dX7_pack_3 : decode cX7_pack 3 = .ok (.getfield 321, 3) := dk_180 1 65 (dk_at dksX7_pack_0 3 rfl rfl)
theorem dX7_pack_6 : decode cX7_pack 6 = .ok (.iastore, 1) := dk_79 (dk_at dksX7_pack_0 6 rfl rfl)
theorem dX7_pack_7 : decode cX7_pack 7 = .ok (.aload_n 1, 1) := dk_43 (dk_at dksX7_pack_0 7 rfl rfl)
theorem dX7_pack_8 : decode cX7_pack 8 = .ok (.iload_n 2, 1) := dk_28 (dk_at dksX7_pack_0 8 rfl rfl)
theorem dX7_pack_9 : decode cX7_pack 9 = .ok (.iconst 1, 1) := dk_4 (dk_at dksX7_pack_0 9 rfl rfl)
theorem dX7_pack_10 : decode cX7_pack 10 = .ok (.iadd, 1) := dk_96 (dk_at dksX7_pack_0 10 rfl rfl)
theorem dX7_pack_11 : decode cX7_pack 11 = .ok (.aload_n 0, 1) := dk_42 (dk_at dksX7_pack_0 11 rfl rfl)
theorem dX7_pack_12 : decode cX7_pack 12 = .ok (.getfield 324, 3) := dk_180 1 68 (dk_at dksX7_pack_0 12 rfl rfl)
theorem dX7_pack_15 : decode cX7_pack 15 = .ok (.iastore, 1) := dk_79 (dk_at dksX7_pack_0 15 rfl rfl)
theorem dX7_pack_16 : decode cX7_pack 16 = .ok (.iload_n 2, 1) := dk_28 (dk_at dksX7_pack_0 16 rfl rfl)
theorem dX7_pack_17 : decode cX7_pack 17 = .ok (.iconst 2, 1) := dk_5 (dk_at dksX7_pack_0 17 rfl rfl)
theorem dX7_pack_18 : decode cX7_pack 18 = .ok (.iadd, 1) := dk_96 (dk_at dksX7_pack_0 18 rfl rfl)
theorem dX7_pack_19 : decode cX7_pack 19 = .ok (.istore_n 3, 1) := dk_62 (dk_at dksX7_pack_0 19 rfl rfl)
theorem dX7_pack_20 : decode cX7_pack 20 = .ok (.iconst 0, 1) := dk_3 (dk_at dksX7_pack_0 20 rfl rfl)
theorem dX7_pack_21 : decode cX7_pack 21 = .ok (.istore 4, 2) := dk_54 4 (dk_at dksX7_pack_0 21 rfl rfl)
theorem dX7_pack_23 : decode cX7_pack 23 = .ok (.iload 4, 2) := dk_21 4 (dk_at dksX7_pack_1 0 rfl rfl)
theorem dX7_pack_25 : decode cX7_pack 25 = .ok (.bipush 64, 2) := dk_16 64 (dk_at dksX7_pack_1 2 rfl rfl)
theorem dX7_pack_27 : decode cX7_pack 27 = .ok (.if_icmp .ge 22, 3) := dk_162 0 22 (dk_at dksX7_pack_1 4 rfl rfl)
theorem dX7_pack_30 : decode cX7_pack 30 = .ok (.aload_n 1, 1) := dk_43 (dk_at dksX7_pack_1 7 rfl rfl)
theorem dX7_pack_31 : decode cX7_pack 31 = .ok (.iload_n 3, 1) := dk_29 (dk_at dksX7_pack_1 8 rfl rfl)
theorem dX7_pack_32 : decode cX7_pack 32 = .ok (.iload 4, 2) := dk_21 4 (dk_at dksX7_pack_1 9 rfl rfl)
theorem dX7_pack_34 : decode cX7_pack 34 = .ok (.iadd, 1) := dk_96 (dk_at dksX7_pack_1 11 rfl rfl)
theorem dX7_pack_35 : decode cX7_pack 35 = .ok (.aload_n 0, 1) := dk_42 (dk_at dksX7_pack_1 12 rfl rfl)
theorem dX7_pack_36 : decode cX7_pack 36 = .ok (.getfield 67, 3) := dk_180 0 67 (dk_at dksX7_pack_1 13 rfl rfl)
theorem dX7_pack_39 : decode cX7_pack 39 = .ok (.iload 4, 2) := dk_21 4 (dk_at dksX7_pack_1 16 rfl rfl)
theorem dX7_pack_41 : decode cX7_pack 41 = .ok (.iaload, 1) := dk_46 (dk_at dksX7_pack_1 18 rfl rfl)
theorem dX7_pack_42 : decode cX7_pack 42 = .ok (.iastore, 1) := dk_79 (dk_at dksX7_pack_1 19 rfl rfl)
theorem dX7_pack_43 : decode cX7_pack 43 = .ok (.iinc 4 1, 3) := dk_132 4 1 (dk_at dksX7_pack_1 20 rfl rfl)
theorem dX7_pack_46 : decode cX7_pack 46 = .ok (.goto (-23), 3) := dk_167 255 233 (dk_at dksX7_pack_2 0 rfl rfl)
theorem dX7_pack_49 : decode cX7_pack 49 = .ok (.iinc 3 64, 3) := dk_132 3 64 (dk_at dksX7_pack_2 3 rfl rfl)
theorem dX7_pack_52 : decode cX7_pack 52 = .ok (.iconst 0, 1) := dk_3 (dk_at dksX7_pack_2 6 rfl rfl)
theorem dX7_pack_53 : decode cX7_pack 53 = .ok (.istore 4, 2) := dk_54 4 (dk_at dksX7_pack_2 7 rfl rfl)
theorem dX7_pack_55 : decode cX7_pack 55 = .ok (.iload 4, 2) := dk_21 4 (dk_at dksX7_pack_2 9 rfl rfl)
theorem dX7_pack_57 : decode cX7_pack 57 = .ok (.bipush 6, 2) := dk_16 6 (dk_at dksX7_pack_2 11 rfl rfl)
theorem dX7_pack_59 : decode cX7_pack 59 = .ok (.if_icmp .ge 22, 3) := dk_162 0 22 (dk_at dksX7_pack_2 13 rfl rfl)
theorem dX7_pack_62 : decode cX7_pack 62 = .ok (.aload_n 1, 1) := dk_43 (dk_at dksX7_pack_2 16 rfl rfl)
theorem dX7_pack_63 : decode cX7_pack 63 = .ok (.iload_n 3, 1) := dk_29 (dk_at dksX7_pack_2 17 rfl rfl)
theorem dX7_pack_64 : decode cX7_pack 64 = .ok (.iload 4, 2) := dk_21 4 (dk_at dksX7_pack_2 18 rfl rfl)
theorem dX7_pack_66 : decode cX7_pack 66 = .ok (.iadd, 1) := dk_96 (dk_at dksX7_pack_2 20 rfl rfl)
theorem dX7_pack_67 : decode cX7_pack 67 = .ok (.aload_n 0, 1) := dk_42 (dk_at dksX7_pack_2 21 rfl rfl)
theorem dX7_pack_68 : decode cX7_pack 68 = .ok (.getfield 83, 3) := dk_180 0 83 (dk_at dksX7_pack_3 0 rfl rfl)
theorem dX7_pack_71 : decode cX7_pack 71 = .ok (.iload 4, 2) := dk_21 4 (dk_at dksX7_pack_3 3 rfl rfl)
theorem dX7_pack_73 : decode cX7_pack 73 = .ok (.iaload, 1) := dk_46 (dk_at dksX7_pack_3 5 rfl rfl)
theorem dX7_pack_74 : decode cX7_pack 74 = .ok (.iastore, 1) := dk_79 (dk_at dksX7_pack_3 6 rfl rfl)
theorem dX7_pack_75 : decode cX7_pack 75 = .ok (.iinc 4 1, 3) := dk_132 4 1 (dk_at dksX7_pack_3 7 rfl rfl)
theorem dX7_pack_78 : decode cX7_pack 78 = .ok (.goto (-23), 3) := dk_167 255 233 (dk_at dksX7_pack_3 10 rfl rfl)
theorem dX7_pack_81 : decode cX7_pack 81 = .ok (.iconst 0, 1) := dk_3 (dk_at dksX7_pack_3 13 rfl rfl)
theorem dX7_pack_82 : decode cX7_pack 82 = .ok (.istore 4, 2) := dk_54 4 (dk_at dksX7_pack_3 14 rfl rfl)
theorem dX7_pack_84 : decode cX7_pack 84 = .ok (.iload 4, 2) := dk_21 4 (dk_at dksX7_pack_3 16 rfl rfl)
theorem dX7_pack_86 : decode cX7_pack 86 = .ok (.bipush 8, 2) := dk_16 8 (dk_at dksX7_pack_3 18 rfl rfl)
theorem dX7_pack_88 : decode cX7_pack 88 = .ok (.if_icmp .ge 25, 3) := dk_162 0 25 (dk_at dksX7_pack_3 20 rfl rfl)
theorem dX7_pack_91 : decode cX7_pack 91 = .ok (.aload_n 1, 1) := dk_43 (dk_at dksX7_pack_3 23 rfl rfl)
theorem dX7_pack_92 : decode cX7_pack 92 = .ok (.iload_n 3, 1) := dk_29 (dk_at dksX7_pack_4 0 rfl rfl)
theorem dX7_pack_93 : decode cX7_pack 93 = .ok (.bipush 6, 2) := dk_16 6 (dk_at dksX7_pack_4 1 rfl rfl)
theorem dX7_pack_95 : decode cX7_pack 95 = .ok (.iadd, 1) := dk_96 (dk_at dksX7_pack_4 3 rfl rfl)
theorem dX7_pack_96 : decode cX7_pack 96 = .ok (.iload 4, 2) := dk_21 4 (dk_at dksX7_pack_4 4 rfl rfl)
theorem dX7_pack_98 : decode cX7_pack 98 = .ok (.iadd, 1) := dk_96 (dk_at dksX7_pack_4 6 rfl rfl)
theorem dX7_pack_99 : decode cX7_pack 99 = .ok (.aload_n 0, 1) := dk_42 (dk_at dksX7_pack_4 7 rfl rfl)
theorem dX7_pack_100 : decode cX7_pack 100 = .ok (.getfield 86, 3) := dk_180 0 86 (dk_at dksX7_pack_4 8 rfl rfl)
theorem dX7_pack_103 : decode cX7_pack 103 = .ok (.iload 4, 2) := dk_21 4 (dk_at dksX7_pack_4 11 rfl rfl)
theorem dX7_pack_105 : decode cX7_pack 105 = .ok (.iaload, 1) := dk_46 (dk_at dksX7_pack_4 13 rfl rfl)
theorem dX7_pack_106 : decode cX7_pack 106 = .ok (.iastore, 1) := dk_79 (dk_at dksX7_pack_4 14 rfl rfl)
theorem dX7_pack_107 : decode cX7_pack 107 = .ok (.iinc 4 1, 3) := dk_132 4 1 (dk_at dksX7_pack_4 15 rfl rfl)
theorem dX7_pack_110 : decode cX7_pack 110 = .ok (.goto (-26), 3) := dk_167 255 230 (dk_at dksX7_pack_4 18 rfl rfl)
theorem dX7_pack_113 : decode cX7_pack 113 = .ok (.return_, 1) := dk_177 (dk_at dksX7_pack_4 21 rfl rfl)
abbrev cX7_thank : ByteArray := prog_21_method_69_code
def yX7_thank : MethodName := ⟨RX7, "thank", "(II)I"⟩
def dkwX7_thank_2 : List UInt8 := [180, 1, 65, 182, 1, 161, 42, 180, 0, 86, 28, 92, 46, 4, 96, 79, 42, 180, 0, 86, 28, 46, 172]
abbrev dktX7_thank_2 : List UInt8 := dkwX7_thank_2 ++ []
def dkwX7_thank_1 : List UInt8 := [182, 1, 51, 172, 27, 28, 160, 0, 9, 42, 4, 182, 1, 158, 172, 42, 182, 1, 155, 42, 27, 28, 42]
abbrev dktX7_thank_1 : List UInt8 := dkwX7_thank_1 ++ dktX7_thank_2
def dkwX7_thank_0 : List UInt8 := [42, 3, 181, 0, 159, 42, 27, 182, 1, 133, 153, 0, 11, 42, 28, 182, 1, 133, 154, 0, 9, 42, 4]
abbrev dktX7_thank_0 : List UInt8 := dkwX7_thank_0 ++ dktX7_thank_1
theorem dksX7_thank_0 : cX7_thank.data.toList.drop 0 = dktX7_thank_0 := by decide +kernel
theorem dksX7_thank_1 : cX7_thank.data.toList.drop 23 = dktX7_thank_1 := dk_seg dksX7_thank_0 23 rfl rfl
theorem dksX7_thank_2 : cX7_thank.data.toList.drop 46 = dktX7_thank_2 := dk_seg dksX7_thank_1 23 rfl rfl
theorem dX7_thank_0 : decode cX7_thank 0 = .ok (.aload_n 0, 1) := dk_42 (dk_at dksX7_thank_0 0 rfl rfl)
theorem dX7_thank_1 : decode cX7_thank 1 = .ok (.iconst 0, 1) := dk_3 (dk_at dksX7_thank_0 1 rfl rfl)
theorem dX7_thank_2 : decode cX7_thank 2 = .ok (.putfield 159, 3) := dk_181 0 159 (dk_at dksX7_thank_0 2 rfl rfl)
theorem dX7_thank_5 : decode cX7_thank 5 = .ok (.aload_n 0, 1) := dk_42 (dk_at dksX7_thank_0 5 rfl rfl)
theorem dX7_thank_6 : decode cX7_thank 6 = .ok (.iload_n 1, 1) := dk_27 (dk_at dksX7_thank_0 6 rfl rfl)
theorem dX7_thank_7 : decode cX7_thank 7 = .ok (.invokevirtual 389, 3) := dk_182 1 133 (dk_at dksX7_thank_0 7 rfl rfl)
theorem dX7_thank_10 : decode cX7_thank 10 = .ok (.ifCond .eq 11, 3) := dk_153 0 11 (dk_at dksX7_thank_0 10 rfl rfl)
theorem dX7_thank_13 : decode cX7_thank 13 = .ok (.aload_n 0, 1) := dk_42 (dk_at dksX7_thank_0 13 rfl rfl)
theorem dX7_thank_14 : decode cX7_thank 14 = .ok (.iload_n 2, 1) := dk_28 (dk_at dksX7_thank_0 14 rfl rfl)
theorem dX7_thank_15 : decode cX7_thank 15 = .ok (.invokevirtual 389, 3) := dk_182 1 133 (dk_at dksX7_thank_0 15 rfl rfl)
theorem dX7_thank_18 : decode cX7_thank 18 = .ok (.ifCond .ne 9, 3) := dk_154 0 9 (dk_at dksX7_thank_0 18 rfl rfl)
theorem dX7_thank_21 : decode cX7_thank 21 = .ok (.aload_n 0, 1) := dk_42 (dk_at dksX7_thank_0 21 rfl rfl)
theorem dX7_thank_22 : decode cX7_thank 22 = .ok (.iconst 1, 1) := dk_4 (dk_at dksX7_thank_0 22 rfl rfl)
theorem dX7_thank_23 : decode cX7_thank 23 = .ok (.invokevirtual 307, 3) := dk_182 1 51 (dk_at dksX7_thank_1 0 rfl rfl)
theorem dX7_thank_26 : decode cX7_thank 26 = .ok (.ireturn, 1) := dk_172 (dk_at dksX7_thank_1 3 rfl rfl)
theorem dX7_thank_27 : decode cX7_thank 27 = .ok (.iload_n 1, 1) := dk_27 (dk_at dksX7_thank_1 4 rfl rfl)
theorem dX7_thank_28 : decode cX7_thank 28 = .ok (.iload_n 2, 1) := dk_28 (dk_at dksX7_thank_1 5 rfl rfl)
theorem dX7_thank_29 : decode cX7_thank 29 = .ok (.if_icmp .ne 9, 3) := dk_160 0 9 (dk_at dksX7_thank_1 6 rfl rfl)
theorem dX7_thank_32 : decode cX7_thank 32 = .ok (.aload_n 0, 1) := dk_42 (dk_at dksX7_thank_1 9 rfl rfl)
theorem dX7_thank_33 : decode cX7_thank 33 = .ok (.iconst 1, 1) := dk_4 (dk_at dksX7_thank_1 10 rfl rfl)
theorem dX7_thank_34 : decode cX7_thank 34 = .ok (.invokevirtual 414, 3) := dk_182 1 158 (dk_at dksX7_thank_1 11 rfl rfl)
theorem dX7_thank_37 : decode cX7_thank 37 = .ok (.ireturn, 1) := dk_172 (dk_at dksX7_thank_1 14 rfl rfl)
theorem dX7_thank_38 : decode cX7_thank 38 = .ok (.aload_n 0, 1) := dk_42 (dk_at dksX7_thank_1 15 rfl rfl)
theorem dX7_thank_39 : decode cX7_thank 39 = .ok (.invokevirtual 411, 3) := dk_182 1 155 (dk_at dksX7_thank_1 16 rfl rfl)
theorem dX7_thank_42 : decode cX7_thank 42 = .ok (.aload_n 0, 1) := dk_42 (dk_at dksX7_thank_1 19 rfl rfl)
theorem dX7_thank_43 : decode cX7_thank 43 = .ok (.iload_n 1, 1) := dk_27 (dk_at dksX7_thank_1 20 rfl rfl)
theorem dX7_thank_44 : decode cX7_thank 44 = .ok (.iload_n 2, 1) := dk_28 (dk_at dksX7_thank_1 21 rfl rfl)
theorem dX7_thank_45 : decode cX7_thank 45 = .ok (.aload_n 0, 1) := dk_42 (dk_at dksX7_thank_1 22 rfl rfl)
theorem dX7_thank_46 : decode cX7_thank 46 = .ok (.getfield 321, 3) := dk_180 1 65 (dk_at dksX7_thank_2 0 rfl rfl)
theorem dX7_thank_49 : decode cX7_thank 49 = .ok (.invokevirtual 417, 3) := dk_182 1 161 (dk_at dksX7_thank_2 3 rfl rfl)
theorem dX7_thank_52 : decode cX7_thank 52 = .ok (.aload_n 0, 1) := dk_42 (dk_at dksX7_thank_2 6 rfl rfl)
theorem dX7_thank_53 : decode cX7_thank 53 = .ok (.getfield 86, 3) := dk_180 0 86 (dk_at dksX7_thank_2 7 rfl rfl)
theorem dX7_thank_56 : decode cX7_thank 56 = .ok (.iload_n 2, 1) := dk_28 (dk_at dksX7_thank_2 10 rfl rfl)
theorem dX7_thank_57 : decode cX7_thank 57 = .ok (.dup2, 1) := dk_92 (dk_at dksX7_thank_2 11 rfl rfl)
theorem dX7_thank_58 : decode cX7_thank 58 = .ok (.iaload, 1) := dk_46 (dk_at dksX7_thank_2 12 rfl rfl)
theorem dX7_thank_59 : decode cX7_thank 59 = .ok (.iconst 1, 1) := dk_4 (dk_at dksX7_thank_2 13 rfl rfl)
theorem dX7_thank_60 : decode cX7_thank 60 = .ok (.iadd, 1) := dk_96 (dk_at dksX7_thank_2 14 rfl rfl)
theorem dX7_thank_61 : decode cX7_thank 61 = .ok (.iastore, 1) := dk_79 (dk_at dksX7_thank_2 15 rfl rfl)
theorem dX7_thank_62 : decode cX7_thank 62 = .ok (.aload_n 0, 1) := dk_42 (dk_at dksX7_thank_2 16 rfl rfl)
theorem dX7_thank_63 : decode cX7_thank 63 = .ok (.getfield 86, 3) := dk_180 0 86 (dk_at dksX7_thank_2 17 rfl rfl)
theorem dX7_thank_66 : decode cX7_thank 66 = .ok (.iload_n 2, 1) := dk_28 (dk_at dksX7_thank_2 20 rfl rfl)
theorem dX7_thank_67 : decode cX7_thank 67 = .ok (.iaload, 1) := dk_46 (dk_at dksX7_thank_2 21 rfl rfl)
theorem dX7_thank_68 : decode cX7_thank 68 = .ok (.ireturn, 1) := dk_172 (dk_at dksX7_thank_2 22 rfl rfl)
abbrev cX7_refuse : ByteArray := prog_21_method_66_code
def yX7_refuse : MethodName := ⟨RX7, "refuse", "(I)I"⟩
def dkwX7_refuse_0 : List UInt8 := [42, 180, 0, 73, 27, 92, 46, 4, 96, 79, 2, 172]
abbrev dktX7_refuse_0 : List UInt8 := dkwX7_refuse_0 ++ []
theorem dksX7_refuse_0 : cX7_refuse.data.toList.drop 0 = dktX7_refuse_0 := by decide +kernel
theorem dX7_refuse_0 : decode cX7_refuse 0 = .ok (.aload_n 0, 1) := dk_42 (dk_at dksX7_refuse_0 0 rfl rfl)
theorem dX7_refuse_1 : decode cX7_refuse 1 = .ok (.getfield 73, 3) := dk_180 0 73 (dk_at dksX7_refuse_0 1 rfl rfl)
theorem dX7_refuse_4 : decode cX7_refuse 4 = .ok (.iload_n 1, 1) := dk_27 (dk_at dksX7_refuse_0 4 rfl rfl)
theorem dX7_refuse_5 : decode cX7_refuse 5 = .ok (.dup2, 1) := dk_92 (dk_at dksX7_refuse_0 5 rfl rfl)
theorem dX7_refuse_6 : decode cX7_refuse 6 = .ok (.iaload, 1) := dk_46 (dk_at dksX7_refuse_0 6 rfl rfl)
theorem dX7_refuse_7 : decode cX7_refuse 7 = .ok (.iconst 1, 1) := dk_4 (dk_at dksX7_refuse_0 7 rfl rfl)
theorem dX7_refuse_8 : decode cX7_refuse 8 = .ok (.iadd, 1) := dk_96 (dk_at dksX7_refuse_0 8 rfl rfl)
theorem dX7_refuse_9 : decode cX7_refuse 9 = .ok (.iastore, 1) := dk_79 (dk_at dksX7_refuse_0 9 rfl rfl)
theorem dX7_refuse_10 : decode cX7_refuse 10 = .ok (.iconst (-1), 1) := dk_2 (dk_at dksX7_refuse_0 10 rfl rfl)
theorem dX7_refuse_11 : decode cX7_refuse 11 = .ok (.ireturn, 1) := dk_172 (dk_at dksX7_refuse_0 11 rfl rfl)
abbrev cX7_meet : ByteArray := prog_21_method_44_code
def yX7_meet : MethodName := ⟨RX7, "meet", "(III)V"⟩
def dkwX7_meet_0 : List UInt8 := [42, 180, 0, 67, 27, 28, 184, 1, 26, 29, 79, 42, 180, 0, 67, 28, 27, 184, 1, 26, 29, 79, 177]
abbrev dktX7_meet_0 : List UInt8 := dkwX7_meet_0 ++ []
theorem dksX7_meet_0 : cX7_meet.data.toList.drop 0 = dktX7_meet_0 := by decide +kernel
theorem dX7_meet_0 : decode cX7_meet 0 = .ok (.aload_n 0, 1) := dk_42 (dk_at dksX7_meet_0 0 rfl rfl)
theorem dX7_meet_1 : decode cX7_meet 1 = .ok (.getfield 67, 3) := dk_180 0 67 (dk_at dksX7_meet_0 1 rfl rfl)
theorem dX7_meet_4 : decode cX7_meet 4 = .ok (.iload_n 1, 1) := dk_27 (dk_at dksX7_meet_0 4 rfl rfl)
theorem dX7_meet_5 : decode cX7_meet 5 = .ok (.iload_n 2, 1) := dk_28 (dk_at dksX7_meet_0 5 rfl rfl)
theorem dX7_meet_6 : decode cX7_meet 6 = .ok (.invokestatic 282, 3) := dk_184 1 26 (dk_at dksX7_meet_0 6 rfl rfl)
theorem dX7_meet_9 : decode cX7_meet 9 = .ok (.iload_n 3, 1) := dk_29 (dk_at dksX7_meet_0 9 rfl rfl)
theorem dX7_meet_10 : decode cX7_meet 10 = .ok (.iastore, 1) := dk_79 (dk_at dksX7_meet_0 10 rfl rfl)
theorem dX7_meet_11 : decode cX7_meet 11 = .ok (.aload_n 0, 1) := dk_42 (dk_at dksX7_meet_0 11 rfl rfl)
theorem dX7_meet_12 : decode cX7_meet 12 = .ok (.getfield 67, 3) := dk_180 0 67 (dk_at dksX7_meet_0 12 rfl rfl)
theorem dX7_meet_15 : decode cX7_meet 15 = .ok (.iload_n 2, 1) := dk_28 (dk_at dksX7_meet_0 15 rfl rfl)
theorem dX7_meet_16 : decode cX7_meet 16 = .ok (.iload_n 1, 1) := dk_27 (dk_at dksX7_meet_0 16 rfl rfl)
theorem dX7_meet_17 : decode cX7_meet 17 = .ok (.invokestatic 282, 3) := dk_184 1 26 (dk_at dksX7_meet_0 17 rfl rfl)
theorem dX7_meet_20 : decode cX7_meet 20 = .ok (.iload_n 3, 1) := dk_29 (dk_at dksX7_meet_0 20 rfl rfl)
theorem dX7_meet_21 : decode cX7_meet 21 = .ok (.iastore, 1) := dk_79 (dk_at dksX7_meet_0 21 rfl rfl)
theorem dX7_meet_22 : decode cX7_meet 22 = .ok (.return_, 1) := dk_177 (dk_at dksX7_meet_0 22 rfl rfl)
abbrev cX7_fair : ByteArray := prog_21_method_71_code
def yX7_fair : MethodName := ⟨RX7, "fair", "(I)I"⟩
def dkwX7_fair_2 : List UInt8 := [182, 1, 168, 27, 184, 1, 165, 172]
abbrev dktX7_fair_2 : List UInt8 := dkwX7_fair_2 ++ []
def dkwX7_fair_1 : List UInt8 := [153, 0, 11, 27, 184, 1, 165, 5, 162, 0, 9, 42, 4, 182, 1, 158, 172, 42, 182, 1, 155, 42, 27]
abbrev dktX7_fair_1 : List UInt8 := dkwX7_fair_1 ++ dktX7_fair_2
def dkwX7_fair_0 : List UInt8 := [42, 3, 181, 0, 159, 27, 133, 9, 4, 42, 180, 0, 38, 3, 46, 120, 4, 100, 133, 184, 0, 162]
abbrev dktX7_fair_0 : List UInt8 := dkwX7_fair_0 ++ dktX7_fair_1
theorem dksX7_fair_0 : cX7_fair.data.toList.drop 0 = dktX7_fair_0 := by decide +kernel
theorem dksX7_fair_1 : cX7_fair.data.toList.drop 22 = dktX7_fair_1 := dk_seg dksX7_fair_0 22 rfl rfl
theorem dksX7_fair_2 : cX7_fair.data.toList.drop 45 = dktX7_fair_2 := dk_seg dksX7_fair_1 23 rfl rfl
theorem dX7_fair_0 : decode cX7_fair 0 = .ok (.aload_n 0, 1) := dk_42 (dk_at dksX7_fair_0 0 rfl rfl)
theorem dX7_fair_1 : decode cX7_fair 1 = .ok (.iconst 0, 1) := dk_3 (dk_at dksX7_fair_0 1 rfl rfl)
theorem dX7_fair_2 : decode cX7_fair 2 = .ok (.putfield 159, 3) := dk_181 0 159 (dk_at dksX7_fair_0 2 rfl rfl)
theorem dX7_fair_5 : decode cX7_fair 5 = .ok (.iload_n 1, 1) := dk_27 (dk_at dksX7_fair_0 5 rfl rfl)
theorem dX7_fair_6 : decode cX7_fair 6 = .ok (.i2l, 1) := dk_133 (dk_at dksX7_fair_0 6 rfl rfl)
theorem dX7_fair_7 : decode cX7_fair 7 = .ok (.lconst 0, 1) := dk_9 (dk_at dksX7_fair_0 7 rfl rfl)
theorem dX7_fair_8 : decode cX7_fair 8 = .ok (.iconst 1, 1) := dk_4 (dk_at dksX7_fair_0 8 rfl rfl)
theorem dX7_fair_9 : decode cX7_fair 9 = .ok (.aload_n 0, 1) := dk_42 (dk_at dksX7_fair_0 9 rfl rfl)
theorem dX7_fair_10 : decode cX7_fair 10 = .ok (.getfield 38, 3) := dk_180 0 38 (dk_at dksX7_fair_0 10 rfl rfl)
theorem dX7_fair_13 : decode cX7_fair 13 = .ok (.iconst 0, 1) := dk_3 (dk_at dksX7_fair_0 13 rfl rfl)
theorem dX7_fair_14 : decode cX7_fair 14 = .ok (.iaload, 1) := dk_46 (dk_at dksX7_fair_0 14 rfl rfl)
theorem dX7_fair_15 : decode cX7_fair 15 = .ok (.ishl, 1) := dk_120 (dk_at dksX7_fair_0 15 rfl rfl)
theorem dX7_fair_16 : decode cX7_fair 16 = .ok (.iconst 1, 1) := dk_4 (dk_at dksX7_fair_0 16 rfl rfl)
theorem dX7_fair_17 : decode cX7_fair 17 = .ok (.isub, 1) := dk_100 (dk_at dksX7_fair_0 17 rfl rfl)
theorem dX7_fair_18 : decode cX7_fair 18 = .ok (.i2l, 1) := dk_133 (dk_at dksX7_fair_0 18 rfl rfl)
theorem dX7_fair_19 : decode cX7_fair 19 = .ok (.invokestatic 162, 3) := dk_184 0 162 (dk_at dksX7_fair_0 19 rfl rfl)
theorem dX7_fair_22 : decode cX7_fair 22 = .ok (.ifCond .eq 11, 3) := dk_153 0 11 (dk_at dksX7_fair_1 0 rfl rfl)
theorem dX7_fair_25 : decode cX7_fair 25 = .ok (.iload_n 1, 1) := dk_27 (dk_at dksX7_fair_1 3 rfl rfl)
theorem dX7_fair_26 : decode cX7_fair 26 = .ok (.invokestatic 421, 3) := dk_184 1 165 (dk_at dksX7_fair_1 4 rfl rfl)
theorem dX7_fair_29 : decode cX7_fair 29 = .ok (.iconst 2, 1) := dk_5 (dk_at dksX7_fair_1 7 rfl rfl)
theorem dX7_fair_30 : decode cX7_fair 30 = .ok (.if_icmp .ge 9, 3) := dk_162 0 9 (dk_at dksX7_fair_1 8 rfl rfl)
theorem dX7_fair_33 : decode cX7_fair 33 = .ok (.aload_n 0, 1) := dk_42 (dk_at dksX7_fair_1 11 rfl rfl)
theorem dX7_fair_34 : decode cX7_fair 34 = .ok (.iconst 1, 1) := dk_4 (dk_at dksX7_fair_1 12 rfl rfl)
theorem dX7_fair_35 : decode cX7_fair 35 = .ok (.invokevirtual 414, 3) := dk_182 1 158 (dk_at dksX7_fair_1 13 rfl rfl)
theorem dX7_fair_38 : decode cX7_fair 38 = .ok (.ireturn, 1) := dk_172 (dk_at dksX7_fair_1 16 rfl rfl)
theorem dX7_fair_39 : decode cX7_fair 39 = .ok (.aload_n 0, 1) := dk_42 (dk_at dksX7_fair_1 17 rfl rfl)
theorem dX7_fair_40 : decode cX7_fair 40 = .ok (.invokevirtual 411, 3) := dk_182 1 155 (dk_at dksX7_fair_1 18 rfl rfl)
theorem dX7_fair_43 : decode cX7_fair 43 = .ok (.aload_n 0, 1) := dk_42 (dk_at dksX7_fair_1 21 rfl rfl)
theorem dX7_fair_44 : decode cX7_fair 44 = .ok (.iload_n 1, 1) := dk_27 (dk_at dksX7_fair_1 22 rfl rfl)
theorem dX7_fair_45 : decode cX7_fair 45 = .ok (.invokevirtual 424, 3) := dk_182 1 168 (dk_at dksX7_fair_2 0 rfl rfl)
theorem dX7_fair_48 : decode cX7_fair 48 = .ok (.iload_n 1, 1) := dk_27 (dk_at dksX7_fair_2 3 rfl rfl)
theorem dX7_fair_49 : decode cX7_fair 49 = .ok (.invokestatic 421, 3) := dk_184 1 165 (dk_at dksX7_fair_2 4 rfl rfl)
theorem dX7_fair_52 : decode cX7_fair 52 = .ok (.ireturn, 1) := dk_172 (dk_at dksX7_fair_2 7 rfl rfl)
abbrev cX7_bitsOf : ByteArray := prog_21_method_57_code
def yX7_bitsOf : MethodName := ⟨RX7, "bitsOf", "(I)I"⟩
def dkwX7_bitsOf_0 : List UInt8 := [3, 60, 26, 61, 28, 153, 0, 15, 132, 1, 1, 28, 28, 4, 100, 126, 61, 167, 255, 243, 27, 172]
abbrev dktX7_bitsOf_0 : List UInt8 := dkwX7_bitsOf_0 ++ []
theorem dksX7_bitsOf_0 : cX7_bitsOf.data.toList.drop 0 = dktX7_bitsOf_0 := by decide +kernel
theorem dX7_bitsOf_0 : decode cX7_bitsOf 0 = .ok (.iconst 0, 1) := dk_3 (dk_at dksX7_bitsOf_0 0 rfl rfl)
theorem dX7_bitsOf_1 : decode cX7_bitsOf 1 = .ok (.istore_n 1, 1) := dk_60 (dk_at dksX7_bitsOf_0 1 rfl rfl)
theorem dX7_bitsOf_2 : decode cX7_bitsOf 2 = .ok (.iload_n 0, 1) := dk_26 (dk_at dksX7_bitsOf_0 2 rfl rfl)
theorem dX7_bitsOf_3 : decode cX7_bitsOf 3 = .ok (.istore_n 2, 1) := dk_61 (dk_at dksX7_bitsOf_0 3 rfl rfl)
theorem dX7_bitsOf_4 : decode cX7_bitsOf 4 = .ok (.iload_n 2, 1) := dk_28 (dk_at dksX7_bitsOf_0 4 rfl rfl)
theorem dX7_bitsOf_5 : decode cX7_bitsOf 5 = .ok (.ifCond .eq 15, 3) := dk_153 0 15 (dk_at dksX7_bitsOf_0 5 rfl rfl)
theorem dX7_bitsOf_8 : decode cX7_bitsOf 8 = .ok (.iinc 1 1, 3) := dk_132 1 1 (dk_at dksX7_bitsOf_0 8 rfl rfl)
theorem dX7_bitsOf_11 : decode cX7_bitsOf 11 = .ok (.iload_n 2, 1) := dk_28 (dk_at dksX7_bitsOf_0 11 rfl rfl)
theorem dX7_bitsOf_12 : decode cX7_bitsOf 12 = .ok (.iload_n 2, 1) := dk_28 (dk_at dksX7_bitsOf_0 12 rfl rfl)
theorem dX7_bitsOf_13 : decode cX7_bitsOf 13 = .ok (.iconst 1, 1) := dk_4 (dk_at dksX7_bitsOf_0 13 rfl rfl)
theorem dX7_bitsOf_14 : decode cX7_bitsOf 14 = .ok (.isub, 1) := dk_100 (dk_at dksX7_bitsOf_0 14 rfl rfl)
theorem dX7_bitsOf_15 : decode cX7_bitsOf 15 = .ok (.iand, 1) := dk_126 (dk_at dksX7_bitsOf_0 15 rfl rfl)
theorem dX7_bitsOf_16 : decode cX7_bitsOf 16 = .ok (.istore_n 2, 1) := dk_61 (dk_at dksX7_bitsOf_0 16 rfl rfl)
theorem dX7_bitsOf_17 : decode cX7_bitsOf 17 = .ok (.goto (-13), 3) := dk_167 255 243 (dk_at dksX7_bitsOf_0 17 rfl rfl)
theorem dX7_bitsOf_20 : decode cX7_bitsOf 20 = .ok (.iload_n 1, 1) := dk_27 (dk_at dksX7_bitsOf_0 20 rfl rfl)
theorem dX7_bitsOf_21 : decode cX7_bitsOf 21 = .ok (.ireturn, 1) := dk_172 (dk_at dksX7_bitsOf_0 21 rfl rfl)
abbrev cX7_fairOf : ByteArray := prog_21_method_70_code
def yX7_fairOf : MethodName := ⟨RX7, "fairOf", "(I)V"⟩
def dkwX7_fairOf_2 : List UInt8 := [180, 1, 65, 182, 1, 161, 132, 3, 1, 167, 255, 217, 132, 2, 1, 167, 255, 197, 177]
abbrev dktX7_fairOf_2 : List UInt8 := dkwX7_fairOf_2 ++ []
def dkwX7_fairOf_1 : List UInt8 := [162, 0, 35, 27, 28, 184, 1, 22, 153, 0, 21, 27, 29, 184, 1, 22, 153, 0, 13, 42, 28, 29, 42]
abbrev dktX7_fairOf_1 : List UInt8 := dkwX7_fairOf_1 ++ dktX7_fairOf_2
def dkwX7_fairOf_0 : List UInt8 := [3, 61, 28, 42, 180, 0, 38, 3, 46, 162, 0, 55, 28, 4, 96, 62, 29, 42, 180, 0, 38, 3, 46]
abbrev dktX7_fairOf_0 : List UInt8 := dkwX7_fairOf_0 ++ dktX7_fairOf_1
theorem dksX7_fairOf_0 : cX7_fairOf.data.toList.drop 0 = dktX7_fairOf_0 := by decide +kernel
theorem dksX7_fairOf_1 : cX7_fairOf.data.toList.drop 23 = dktX7_fairOf_1 := dk_seg dksX7_fairOf_0 23 rfl rfl
theorem dksX7_fairOf_2 : cX7_fairOf.data.toList.drop 46 = dktX7_fairOf_2 := dk_seg dksX7_fairOf_1 23 rfl rfl
theorem dX7_fairOf_0 : decode cX7_fairOf 0 = .ok (.iconst 0, 1) := dk_3 (dk_at dksX7_fairOf_0 0 rfl rfl)
theorem dX7_fairOf_1 : decode cX7_fairOf 1 = .ok (.istore_n 2, 1) := dk_61 (dk_at dksX7_fairOf_0 1 rfl rfl)
theorem dX7_fairOf_2 : decode cX7_fairOf 2 = .ok (.iload_n 2, 1) := dk_28 (dk_at dksX7_fairOf_0 2 rfl rfl)
theorem dX7_fairOf_3 : decode cX7_fairOf 3 = .ok (.aload_n 0, 1) := dk_42 (dk_at dksX7_fairOf_0 3 rfl rfl)
theorem dX7_fairOf_4 : decode cX7_fairOf 4 = .ok (.getfield 38, 3) := dk_180 0 38 (dk_at dksX7_fairOf_0 4 rfl rfl)
theorem dX7_fairOf_7 : decode cX7_fairOf 7 = .ok (.iconst 0, 1) := dk_3 (dk_at dksX7_fairOf_0 7 rfl rfl)
theorem dX7_fairOf_8 : decode cX7_fairOf 8 = .ok (.iaload, 1) := dk_46 (dk_at dksX7_fairOf_0 8 rfl rfl)
theorem dX7_fairOf_9 : decode cX7_fairOf 9 = .ok (.if_icmp .ge 55, 3) := dk_162 0 55 (dk_at dksX7_fairOf_0 9 rfl rfl)
theorem dX7_fairOf_12 : decode cX7_fairOf 12 = .ok (.iload_n 2, 1) := dk_28 (dk_at dksX7_fairOf_0 12 rfl rfl)
theorem dX7_fairOf_13 : decode cX7_fairOf 13 = .ok (.iconst 1, 1) := dk_4 (dk_at dksX7_fairOf_0 13 rfl rfl)
theorem dX7_fairOf_14 : decode cX7_fairOf 14 = .ok (.iadd, 1) := dk_96 (dk_at dksX7_fairOf_0 14 rfl rfl)
theorem dX7_fairOf_15 : decode cX7_fairOf 15 = .ok (.istore_n 3, 1) := dk_62 (dk_at dksX7_fairOf_0 15 rfl rfl)
theorem dX7_fairOf_16 : decode cX7_fairOf 16 = .ok (.iload_n 3, 1) := dk_29 (dk_at dksX7_fairOf_0 16 rfl rfl)
theorem dX7_fairOf_17 : decode cX7_fairOf 17 = .ok (.aload_n 0, 1) := dk_42 (dk_at dksX7_fairOf_0 17 rfl rfl)
theorem dX7_fairOf_18 : decode cX7_fairOf 18 = .ok (.getfield 38, 3) := dk_180 0 38 (dk_at dksX7_fairOf_0 18 rfl rfl)
theorem dX7_fairOf_21 : decode cX7_fairOf 21 = .ok (.iconst 0, 1) := dk_3 (dk_at dksX7_fairOf_0 21 rfl rfl)
theorem dX7_fairOf_22 : decode cX7_fairOf 22 = .ok (.iaload, 1) := dk_46 (dk_at dksX7_fairOf_0 22 rfl rfl)
theorem dX7_fairOf_23 : decode cX7_fairOf 23 = .ok (.if_icmp .ge 35, 3) := dk_162 0 35 (dk_at dksX7_fairOf_1 0 rfl rfl)
theorem dX7_fairOf_26 : decode cX7_fairOf 26 = .ok (.iload_n 1, 1) := dk_27 (dk_at dksX7_fairOf_1 3 rfl rfl)
theorem dX7_fairOf_27 : decode cX7_fairOf 27 = .ok (.iload_n 2, 1) := dk_28 (dk_at dksX7_fairOf_1 4 rfl rfl)
theorem dX7_fairOf_28 : decode cX7_fairOf 28 = .ok (.invokestatic 278, 3) := dk_184 1 22 (dk_at dksX7_fairOf_1 5 rfl rfl)
theorem dX7_fairOf_31 : decode cX7_fairOf 31 = .ok (.ifCond .eq 21, 3) := dk_153 0 21 (dk_at dksX7_fairOf_1 8 rfl rfl)
theorem dX7_fairOf_34 : decode cX7_fairOf 34 = .ok (.iload_n 1, 1) := dk_27 (dk_at dksX7_fairOf_1 11 rfl rfl)
theorem dX7_fairOf_35 : decode cX7_fairOf 35 = .ok (.iload_n 3, 1) := dk_29 (dk_at dksX7_fairOf_1 12 rfl rfl)
theorem dX7_fairOf_36 : decode cX7_fairOf 36 = .ok (.invokestatic 278, 3) := dk_184 1 22 (dk_at dksX7_fairOf_1 13 rfl rfl)
theorem dX7_fairOf_39 : decode cX7_fairOf 39 = .ok (.ifCond .eq 13, 3) := dk_153 0 13 (dk_at dksX7_fairOf_1 16 rfl rfl)
theorem dX7_fairOf_42 : decode cX7_fairOf 42 = .ok (.aload_n 0, 1) := dk_42 (dk_at dksX7_fairOf_1 19 rfl rfl)
theorem dX7_fairOf_43 : decode cX7_fairOf 43 = .ok (.iload_n 2, 1) := dk_28 (dk_at dksX7_fairOf_1 20 rfl rfl)
theorem dX7_fairOf_44 : decode cX7_fairOf 44 = .ok (.iload_n 3, 1) := dk_29 (dk_at dksX7_fairOf_1 21 rfl rfl)
theorem dX7_fairOf_45 : decode cX7_fairOf 45 = .ok (.aload_n 0, 1) := dk_42 (dk_at dksX7_fairOf_1 22 rfl rfl)
theorem dX7_fairOf_46 : decode cX7_fairOf 46 = .ok (.getfield 321, 3) := dk_180 1 65 (dk_at dksX7_fairOf_2 0 rfl rfl)
theorem dX7_fairOf_49 : decode cX7_fairOf 49 = .ok (.invokevirtual 417, 3) := dk_182 1 161 (dk_at dksX7_fairOf_2 3 rfl rfl)
theorem dX7_fairOf_52 : decode cX7_fairOf 52 = .ok (.iinc 3 1, 3) := dk_132 3 1 (dk_at dksX7_fairOf_2 6 rfl rfl)
theorem dX7_fairOf_55 : decode cX7_fairOf 55 = .ok (.goto (-39), 3) := dk_167 255 217 (dk_at dksX7_fairOf_2 9 rfl rfl)
theorem dX7_fairOf_58 : decode cX7_fairOf 58 = .ok (.iinc 2 1, 3) := dk_132 2 1 (dk_at dksX7_fairOf_2 12 rfl rfl)
theorem dX7_fairOf_61 : decode cX7_fairOf 61 = .ok (.goto (-59), 3) := dk_167 255 197 (dk_at dksX7_fairOf_2 15 rfl rfl)
theorem dX7_fairOf_64 : decode cX7_fairOf 64 = .ok (.return_, 1) := dk_177 (dk_at dksX7_fairOf_2 18 rfl rfl)
abbrev cX7_hours : ByteArray := prog_21_method_72_code
def yX7_hours : MethodName := ⟨RX7, "hours", "(I)I"⟩
def dkwX7_hours_3 : List UInt8 := [180, 1, 68, 27, 96, 16, 24, 112, 181, 1, 68, 42, 180, 1, 68, 172]
abbrev dktX7_hours_3 : List UInt8 := dkwX7_hours_3 ++ []
def dkwX7_hours_2 : List UInt8 := [182, 1, 155, 42, 89, 180, 1, 65, 42, 180, 1, 68, 27, 96, 16, 24, 108, 96, 181, 1, 65, 42, 42]
abbrev dktX7_hours_2 : List UInt8 := dkwX7_hours_2 ++ dktX7_hours_3
def dkwX7_hours_1 : List UInt8 := [180, 1, 68, 27, 96, 16, 24, 108, 96, 17, 3, 231, 164, 0, 9, 42, 4, 182, 1, 158, 172, 42]
abbrev dktX7_hours_1 : List UInt8 := dkwX7_hours_1 ++ dktX7_hours_2
def dkwX7_hours_0 : List UInt8 := [42, 3, 181, 0, 159, 27, 133, 10, 20, 1, 171, 184, 0, 162, 153, 0, 23, 42, 180, 1, 65, 42]
abbrev dktX7_hours_0 : List UInt8 := dkwX7_hours_0 ++ dktX7_hours_1
theorem dksX7_hours_0 : cX7_hours.data.toList.drop 0 = dktX7_hours_0 := by decide +kernel
theorem dksX7_hours_1 : cX7_hours.data.toList.drop 22 = dktX7_hours_1 := dk_seg dksX7_hours_0 22 rfl rfl
theorem dksX7_hours_2 : cX7_hours.data.toList.drop 44 = dktX7_hours_2 := dk_seg dksX7_hours_1 22 rfl rfl
theorem dksX7_hours_3 : cX7_hours.data.toList.drop 67 = dktX7_hours_3 := dk_seg dksX7_hours_2 23 rfl rfl
theorem dX7_hours_0 : decode cX7_hours 0 = .ok (.aload_n 0, 1) := dk_42 (dk_at dksX7_hours_0 0 rfl rfl)
theorem dX7_hours_1 : decode cX7_hours 1 = .ok (.iconst 0, 1) := dk_3 (dk_at dksX7_hours_0 1 rfl rfl)
theorem dX7_hours_2 : decode cX7_hours 2 = .ok (.putfield 159, 3) := dk_181 0 159 (dk_at dksX7_hours_0 2 rfl rfl)
theorem dX7_hours_5 : decode cX7_hours 5 = .ok (.iload_n 1, 1) := dk_27 (dk_at dksX7_hours_0 5 rfl rfl)
theorem dX7_hours_6 : decode cX7_hours 6 = .ok (.i2l, 1) := dk_133 (dk_at dksX7_hours_0 6 rfl rfl)
theorem dX7_hours_7 : decode cX7_hours 7 = .ok (.lconst 1, 1) := dk_10 (dk_at dksX7_hours_0 7 rfl rfl)
theorem dX7_hours_8 : decode cX7_hours 8 = .ok (.ldc2_w 427, 3) := dk_20 1 171 (dk_at dksX7_hours_0 8 rfl rfl)
theorem dX7_hours_11 : decode cX7_hours 11 = .ok (.invokestatic 162, 3) := dk_184 0 162 (dk_at dksX7_hours_0 11 rfl rfl)
theorem dX7_hours_14 : decode cX7_hours 14 = .ok (.ifCond .eq 23, 3) := dk_153 0 23 (dk_at dksX7_hours_0 14 rfl rfl)
theorem dX7_hours_17 : decode cX7_hours 17 = .ok (.aload_n 0, 1) := dk_42 (dk_at dksX7_hours_0 17 rfl rfl)
theorem dX7_hours_18 : decode cX7_hours 18 = .ok (.getfield 321, 3) := dk_180 1 65 (dk_at dksX7_hours_0 18 rfl rfl)
theorem dX7_hours_21 : decode cX7_hours 21 = .ok (.aload_n 0, 1) := dk_42 (dk_at dksX7_hours_0 21 rfl rfl)
theorem dX7_hours_22 : decode cX7_hours 22 = .ok (.getfield 324, 3) := dk_180 1 68 (dk_at dksX7_hours_1 0 rfl rfl)
theorem dX7_hours_25 : decode cX7_hours 25 = .ok (.iload_n 1, 1) := dk_27 (dk_at dksX7_hours_1 3 rfl rfl)
theorem dX7_hours_26 : decode cX7_hours 26 = .ok (.iadd, 1) := dk_96 (dk_at dksX7_hours_1 4 rfl rfl)
theorem dX7_hours_27 : decode cX7_hours 27 = .ok (.bipush 24, 2) := dk_16 24 (dk_at dksX7_hours_1 5 rfl rfl)
theorem dX7_hours_29 : decode cX7_hours 29 = .ok (.idiv, 1) := dk_108 (dk_at dksX7_hours_1 7 rfl rfl)
theorem dX7_hours_30 : decode cX7_hours 30 = .ok (.iadd, 1) := dk_96 (dk_at dksX7_hours_1 8 rfl rfl)
theorem dX7_hours_31 : decode cX7_hours 31 = .ok (.sipush 999, 3) := dk_17 3 231 (dk_at dksX7_hours_1 9 rfl rfl)
theorem dX7_hours_34 : decode cX7_hours 34 = .ok (.if_icmp .le 9, 3) := dk_164 0 9 (dk_at dksX7_hours_1 12 rfl rfl)
theorem dX7_hours_37 : decode cX7_hours 37 = .ok (.aload_n 0, 1) := dk_42 (dk_at dksX7_hours_1 15 rfl rfl)
theorem dX7_hours_38 : decode cX7_hours 38 = .ok (.iconst 1, 1) := dk_4 (dk_at dksX7_hours_1 16 rfl rfl)
theorem dX7_hours_39 : decode cX7_hours 39 = .ok (.invokevirtual 414, 3) := dk_182 1 158 (dk_at dksX7_hours_1 17 rfl rfl)
theorem dX7_hours_42 : decode cX7_hours 42 = .ok (.ireturn, 1) := dk_172 (dk_at dksX7_hours_1 20 rfl rfl)
theorem dX7_hours_43 : decode cX7_hours 43 = .ok (.aload_n 0, 1) := dk_42 (dk_at dksX7_hours_1 21 rfl rfl)
theorem dX7_hours_44 : decode cX7_hours 44 = .ok (.invokevirtual 411, 3) := dk_182 1 155 (dk_at dksX7_hours_2 0 rfl rfl)
theorem dX7_hours_47 : decode cX7_hours 47 = .ok (.aload_n 0, 1) := dk_42 (dk_at dksX7_hours_2 3 rfl rfl)
theorem dX7_hours_48 : decode cX7_hours 48 = .ok (.dup, 1) := dk_89 (dk_at dksX7_hours_2 4 rfl rfl)
theorem dX7_hours_49 : decode cX7_hours 49 = .ok (.getfield 321, 3) := dk_180 1 65 (dk_at dksX7_hours_2 5 rfl rfl)
theorem dX7_hours_52 : decode cX7_hours 52 = .ok (.aload_n 0, 1) := dk_42 (dk_at dksX7_hours_2 8 rfl rfl)
theorem dX7_hours_53 : decode cX7_hours 53 = .ok (.getfield 324, 3) := dk_180 1 68 (dk_at dksX7_hours_2 9 rfl rfl)
theorem dX7_hours_56 : decode cX7_hours 56 = .ok (.iload_n 1, 1) := dk_27 (dk_at dksX7_hours_2 12 rfl rfl)
theorem dX7_hours_57 : decode cX7_hours 57 = .ok (.iadd, 1) := dk_96 (dk_at dksX7_hours_2 13 rfl rfl)
theorem dX7_hours_58 : decode cX7_hours 58 = .ok (.bipush 24, 2) := dk_16 24 (dk_at dksX7_hours_2 14 rfl rfl)
theorem dX7_hours_60 : decode cX7_hours 60 = .ok (.idiv, 1) := dk_108 (dk_at dksX7_hours_2 16 rfl rfl)
theorem dX7_hours_61 : decode cX7_hours 61 = .ok (.iadd, 1) := dk_96 (dk_at dksX7_hours_2 17 rfl rfl)
theorem dX7_hours_62 : decode cX7_hours 62 = .ok (.putfield 321, 3) := dk_181 1 65 (dk_at dksX7_hours_2 18 rfl rfl)
theorem dX7_hours_65 : decode cX7_hours 65 = .ok (.aload_n 0, 1) := dk_42 (dk_at dksX7_hours_2 21 rfl rfl)
theorem dX7_hours_66 : decode cX7_hours 66 = .ok (.aload_n 0, 1) := dk_42 (dk_at dksX7_hours_2 22 rfl rfl)
theorem dX7_hours_67 : decode cX7_hours 67 = .ok (.getfield 324, 3) := dk_180 1 68 (dk_at dksX7_hours_3 0 rfl rfl)
theorem dX7_hours_70 : decode cX7_hours 70 = .ok (.iload_n 1, 1) := dk_27 (dk_at dksX7_hours_3 3 rfl rfl)
theorem dX7_hours_71 : decode cX7_hours 71 = .ok (.iadd, 1) := dk_96 (dk_at dksX7_hours_3 4 rfl rfl)
theorem dX7_hours_72 : decode cX7_hours 72 = .ok (.bipush 24, 2) := dk_16 24 (dk_at dksX7_hours_3 5 rfl rfl)
theorem dX7_hours_74 : decode cX7_hours 74 = .ok (.irem, 1) := dk_112 (dk_at dksX7_hours_3 7 rfl rfl)
theorem dX7_hours_75 : decode cX7_hours 75 = .ok (.putfield 324, 3) := dk_181 1 68 (dk_at dksX7_hours_3 8 rfl rfl)
theorem dX7_hours_78 : decode cX7_hours 78 = .ok (.aload_n 0, 1) := dk_42 (dk_at dksX7_hours_3 11 rfl rfl)
theorem dX7_hours_79 : decode cX7_hours 79 = .ok (.getfield 324, 3) := dk_180 1 68 (dk_at dksX7_hours_3 12 rfl rfl)
theorem dX7_hours_82 : decode cX7_hours 82 = .ok (.ireturn, 1) := dk_172 (dk_at dksX7_hours_3 15 rfl rfl)
abbrev cX7_undo : ByteArray := prog_21_method_73_code
def yX7_undo : MethodName := ⟨RX7, "undo", "()I"⟩
def dkwX7_undo_1 : List UInt8 := [42, 42, 180, 0, 88, 16, 80, 42, 180, 1, 71, 104, 182, 1, 173, 42, 180, 1, 71, 172]
abbrev dktX7_undo_1 : List UInt8 := dkwX7_undo_1 ++ []
def dkwX7_undo_0 : List UInt8 := [42, 3, 181, 0, 159, 42, 180, 1, 71, 154, 0, 5, 2, 172, 42, 89, 180, 1, 71, 4, 100, 181, 1, 71]
abbrev dktX7_undo_0 : List UInt8 := dkwX7_undo_0 ++ dktX7_undo_1
theorem dksX7_undo_0 : cX7_undo.data.toList.drop 0 = dktX7_undo_0 := by decide +kernel
theorem dksX7_undo_1 : cX7_undo.data.toList.drop 24 = dktX7_undo_1 := dk_seg dksX7_undo_0 24 rfl rfl
theorem dX7_undo_0 : decode cX7_undo 0 = .ok (.aload_n 0, 1) := dk_42 (dk_at dksX7_undo_0 0 rfl rfl)
theorem dX7_undo_1 : decode cX7_undo 1 = .ok (.iconst 0, 1) := dk_3 (dk_at dksX7_undo_0 1 rfl rfl)
theorem dX7_undo_2 : decode cX7_undo 2 = .ok (.putfield 159, 3) := dk_181 0 159 (dk_at dksX7_undo_0 2 rfl rfl)
theorem dX7_undo_5 : decode cX7_undo 5 = .ok (.aload_n 0, 1) := dk_42 (dk_at dksX7_undo_0 5 rfl rfl)
theorem dX7_undo_6 : decode cX7_undo 6 = .ok (.getfield 327, 3) := dk_180 1 71 (dk_at dksX7_undo_0 6 rfl rfl)
theorem dX7_undo_9 : decode cX7_undo 9 = .ok (.ifCond .ne 5, 3) := dk_154 0 5 (dk_at dksX7_undo_0 9 rfl rfl)
theorem dX7_undo_12 : decode cX7_undo 12 = .ok (.iconst (-1), 1) := dk_2 (dk_at dksX7_undo_0 12 rfl rfl)
theorem dX7_undo_13 : decode cX7_undo 13 = .ok (.ireturn, 1) := dk_172 (dk_at dksX7_undo_0 13 rfl rfl)
theorem dX7_undo_14 : decode cX7_undo 14 = .ok (.aload_n 0, 1) := dk_42 (dk_at dksX7_undo_0 14 rfl rfl)
theorem dX7_undo_15 : decode cX7_undo 15 = .ok (.dup, 1) := dk_89 (dk_at dksX7_undo_0 15 rfl rfl)
theorem dX7_undo_16 : decode cX7_undo 16 = .ok (.getfield 327, 3) := dk_180 1 71 (dk_at dksX7_undo_0 16 rfl rfl)
theorem dX7_undo_19 : decode cX7_undo 19 = .ok (.iconst 1, 1) := dk_4 (dk_at dksX7_undo_0 19 rfl rfl)
theorem dX7_undo_20 : decode cX7_undo 20 = .ok (.isub, 1) := dk_100 (dk_at dksX7_undo_0 20 rfl rfl)
theorem dX7_undo_21 : decode cX7_undo 21 = .ok (.putfield 327, 3) := dk_181 1 71 (dk_at dksX7_undo_0 21 rfl rfl)
theorem dX7_undo_24 : decode cX7_undo 24 = .ok (.aload_n 0, 1) := dk_42 (dk_at dksX7_undo_1 0 rfl rfl)
theorem dX7_undo_25 : decode cX7_undo 25 = .ok (.aload_n 0, 1) := dk_42 (dk_at dksX7_undo_1 1 rfl rfl)
theorem dX7_undo_26 : decode cX7_undo 26 = .ok (.getfield 88, 3) := dk_180 0 88 (dk_at dksX7_undo_1 2 rfl rfl)
theorem dX7_undo_29 : decode cX7_undo 29 = .ok (.bipush 80, 2) := dk_16 80 (dk_at dksX7_undo_1 5 rfl rfl)
theorem dX7_undo_31 : decode cX7_undo 31 = .ok (.aload_n 0, 1) := dk_42 (dk_at dksX7_undo_1 7 rfl rfl)
theorem dX7_undo_32 : decode cX7_undo 32 = .ok (.getfield 327, 3) := dk_180 1 71 (dk_at dksX7_undo_1 8 rfl rfl)
theorem dX7_undo_35 : decode cX7_undo 35 = .ok (.imul, 1) := dk_104 (dk_at dksX7_undo_1 11 rfl rfl)
theorem dX7_undo_36 : decode cX7_undo 36 = .ok (.invokevirtual 429, 3) := dk_182 1 173 (dk_at dksX7_undo_1 12 rfl rfl)
theorem dX7_undo_39 : decode cX7_undo 39 = .ok (.aload_n 0, 1) := dk_42 (dk_at dksX7_undo_1 15 rfl rfl)
theorem dX7_undo_40 : decode cX7_undo 40 = .ok (.getfield 327, 3) := dk_180 1 71 (dk_at dksX7_undo_1 16 rfl rfl)
theorem dX7_undo_43 : decode cX7_undo 43 = .ok (.ireturn, 1) := dk_172 (dk_at dksX7_undo_1 19 rfl rfl)
abbrev cX7_unpack : ByteArray := prog_21_method_40_code
def yX7_unpack : MethodName := ⟨RX7, "unpack", "([II)V"⟩
def dkwX7_unpack_4 : List UInt8 := [180, 0, 86, 21, 4, 43, 29, 16, 6, 96, 21, 4, 96, 46, 79, 132, 4, 1, 167, 255, 230, 177]
abbrev dktX7_unpack_4 : List UInt8 := dkwX7_unpack_4 ++ []
def dkwX7_unpack_3 : List UInt8 := [21, 4, 96, 46, 79, 132, 4, 1, 167, 255, 233, 3, 54, 4, 21, 4, 16, 8, 162, 0, 25, 42]
abbrev dktX7_unpack_3 : List UInt8 := dkwX7_unpack_3 ++ dktX7_unpack_4
def dkwX7_unpack_2 : List UInt8 := [167, 255, 233, 132, 3, 64, 3, 54, 4, 21, 4, 16, 6, 162, 0, 22, 42, 180, 0, 83, 21, 4, 43, 29]
abbrev dktX7_unpack_2 : List UInt8 := dkwX7_unpack_2 ++ dktX7_unpack_3
def dkwX7_unpack_1 : List UInt8 := [21, 4, 16, 64, 162, 0, 22, 42, 180, 0, 67, 21, 4, 43, 29, 21, 4, 96, 46, 79, 132, 4, 1]
abbrev dktX7_unpack_1 : List UInt8 := dkwX7_unpack_1 ++ dktX7_unpack_2
def dkwX7_unpack_0 : List UInt8 := [42, 43, 28, 46, 181, 1, 65, 42, 43, 28, 4, 96, 46, 181, 1, 68, 28, 5, 96, 62, 3, 54, 4]
abbrev dktX7_unpack_0 : List UInt8 := dkwX7_unpack_0 ++ dktX7_unpack_1
theorem dksX7_unpack_0 : cX7_unpack.data.toList.drop 0 = dktX7_unpack_0 := by decide +kernel
theorem dksX7_unpack_1 : cX7_unpack.data.toList.drop 23 = dktX7_unpack_1 := dk_seg dksX7_unpack_0 23 rfl rfl
theorem dksX7_unpack_2 : cX7_unpack.data.toList.drop 46 = dktX7_unpack_2 := dk_seg dksX7_unpack_1 23 rfl rfl
theorem dksX7_unpack_3 : cX7_unpack.data.toList.drop 70 = dktX7_unpack_3 := dk_seg dksX7_unpack_2 24 rfl rfl
theorem dksX7_unpack_4 : cX7_unpack.data.toList.drop 92 = dktX7_unpack_4 := dk_seg dksX7_unpack_3 22 rfl rfl
theorem dX7_unpack_0 : decode cX7_unpack 0 = .ok (.aload_n 0, 1) := dk_42 (dk_at dksX7_unpack_0 0 rfl rfl)
theorem dX7_unpack_1 : decode cX7_unpack 1 = .ok (.aload_n 1, 1) := dk_43 (dk_at dksX7_unpack_0 1 rfl rfl)
theorem dX7_unpack_2 : decode cX7_unpack 2 = .ok (.iload_n 2, 1) := dk_28 (dk_at dksX7_unpack_0 2 rfl rfl)
theorem dX7_unpack_3 : decode cX7_unpack 3 = .ok (.iaload, 1) := dk_46 (dk_at dksX7_unpack_0 3 rfl rfl)
theorem dX7_unpack_4 : decode cX7_unpack 4 = .ok (.putfield 321, 3) := dk_181 1 65 (dk_at dksX7_unpack_0 4 rfl rfl)
theorem dX7_unpack_7 : decode cX7_unpack 7 = .ok (.aload_n 0, 1) := dk_42 (dk_at dksX7_unpack_0 7 rfl rfl)
theorem dX7_unpack_8 : decode cX7_unpack 8 = .ok (.aload_n 1, 1) := dk_43 (dk_at dksX7_unpack_0 8 rfl rfl)
theorem dX7_unpack_9 : decode cX7_unpack 9 = .ok (.iload_n 2, 1) := dk_28 (dk_at dksX7_unpack_0 9 rfl rfl)
theorem dX7_unpack_10 : decode cX7_unpack 10 = .ok (.iconst 1, 1) := dk_4 (dk_at dksX7_unpack_0 10 rfl rfl)
theorem dX7_unpack_11 : decode cX7_unpack 11 = .ok (.iadd, 1) := dk_96 (dk_at dksX7_unpack_0 11 rfl rfl)
theorem dX7_unpack_12 : decode cX7_unpack 12 = .ok (.iaload, 1) := dk_46 (dk_at dksX7_unpack_0 12 rfl rfl)
theorem dX7_unpack_13 : decode cX7_unpack 13 = .ok (.putfield 324, 3) := dk_181 1 68 (dk_at dksX7_unpack_0 13 rfl rfl)
theorem dX7_unpack_16 : decode cX7_unpack 16 = .ok (.iload_n 2, 1) := dk_28 (dk_at dksX7_unpack_0 16 rfl rfl)
theorem dX7_unpack_17 : decode cX7_unpack 17 = .ok (.iconst 2, 1) := dk_5 (dk_at dksX7_unpack_0 17 rfl rfl)
theorem dX7_unpack_18 : decode cX7_unpack 18 = .ok (.iadd, 1) := dk_96 (dk_at dksX7_unpack_0 18 rfl rfl)
theorem dX7_unpack_19 : decode cX7_unpack 19 = .ok (.istore_n 3, 1) := dk_62 (dk_at dksX7_unpack_0 19 rfl rfl)
theorem dX7_unpack_20 : decode cX7_unpack 20 = .ok (.iconst 0, 1) := dk_3 (dk_at dksX7_unpack_0 20 rfl rfl)
theorem dX7_unpack_21 : decode cX7_unpack 21 = .ok (.istore 4, 2) := dk_54 4 (dk_at dksX7_unpack_0 21 rfl rfl)
theorem dX7_unpack_23 : decode cX7_unpack 23 = .ok (.iload 4, 2) := dk_21 4 (dk_at dksX7_unpack_1 0 rfl rfl)
theorem dX7_unpack_25 : decode cX7_unpack 25 = .ok (.bipush 64, 2) := dk_16 64 (dk_at dksX7_unpack_1 2 rfl rfl)
theorem dX7_unpack_27 : decode cX7_unpack 27 = .ok (.if_icmp .ge 22, 3) := dk_162 0 22 (dk_at dksX7_unpack_1 4 rfl rfl)
theorem dX7_unpack_30 : decode cX7_unpack 30 = .ok (.aload_n 0, 1) := dk_42 (dk_at dksX7_unpack_1 7 rfl rfl)
theorem dX7_unpack_31 : decode cX7_unpack 31 = .ok (.getfield 67, 3) := dk_180 0 67 (dk_at dksX7_unpack_1 8 rfl rfl)
theorem dX7_unpack_34 : decode cX7_unpack 34 = .ok (.iload 4, 2) := dk_21 4 (dk_at dksX7_unpack_1 11 rfl rfl)
theorem dX7_unpack_36 : decode cX7_unpack 36 = .ok (.aload_n 1, 1) := dk_43 (dk_at dksX7_unpack_1 13 rfl rfl)
theorem dX7_unpack_37 : decode cX7_unpack 37 = .ok (.iload_n 3, 1) := dk_29 (dk_at dksX7_unpack_1 14 rfl rfl)
theorem dX7_unpack_38 : decode cX7_unpack 38 = .ok (.iload 4, 2) := dk_21 4 (dk_at dksX7_unpack_1 15 rfl rfl)
theorem dX7_unpack_40 : decode cX7_unpack 40 = .ok (.iadd, 1) := dk_96 (dk_at dksX7_unpack_1 17 rfl rfl)
theorem dX7_unpack_41 : decode cX7_unpack 41 = .ok (.iaload, 1) := dk_46 (dk_at dksX7_unpack_1 18 rfl rfl)
theorem dX7_unpack_42 : decode cX7_unpack 42 = .ok (.iastore, 1) := dk_79 (dk_at dksX7_unpack_1 19 rfl rfl)
theorem dX7_unpack_43 : decode cX7_unpack 43 = .ok (.iinc 4 1, 3) := dk_132 4 1 (dk_at dksX7_unpack_1 20 rfl rfl)
theorem dX7_unpack_46 : decode cX7_unpack 46 = .ok (.goto (-23), 3) := dk_167 255 233 (dk_at dksX7_unpack_2 0 rfl rfl)
theorem dX7_unpack_49 : decode cX7_unpack 49 = .ok (.iinc 3 64, 3) := dk_132 3 64 (dk_at dksX7_unpack_2 3 rfl rfl)
theorem dX7_unpack_52 : decode cX7_unpack 52 = .ok (.iconst 0, 1) := dk_3 (dk_at dksX7_unpack_2 6 rfl rfl)
theorem dX7_unpack_53 : decode cX7_unpack 53 = .ok (.istore 4, 2) := dk_54 4 (dk_at dksX7_unpack_2 7 rfl rfl)
theorem dX7_unpack_55 : decode cX7_unpack 55 = .ok (.iload 4, 2) := dk_21 4 (dk_at dksX7_unpack_2 9 rfl rfl)
theorem dX7_unpack_57 : decode cX7_unpack 57 = .ok (.bipush 6, 2) := dk_16 6 (dk_at dksX7_unpack_2 11 rfl rfl)
theorem dX7_unpack_59 : decode cX7_unpack 59 = .ok (.if_icmp .ge 22, 3) := dk_162 0 22 (dk_at dksX7_unpack_2 13 rfl rfl)
theorem dX7_unpack_62 : decode cX7_unpack 62 = .ok (.aload_n 0, 1) := dk_42 (dk_at dksX7_unpack_2 16 rfl rfl)
theorem dX7_unpack_63 : decode cX7_unpack 63 = .ok (.getfield 83, 3) := dk_180 0 83 (dk_at dksX7_unpack_2 17 rfl rfl)
theorem dX7_unpack_66 : decode cX7_unpack 66 = .ok (.iload 4, 2) := dk_21 4 (dk_at dksX7_unpack_2 20 rfl rfl)
theorem dX7_unpack_68 : decode cX7_unpack 68 = .ok (.aload_n 1, 1) := dk_43 (dk_at dksX7_unpack_2 22 rfl rfl)
theorem dX7_unpack_69 : decode cX7_unpack 69 = .ok (.iload_n 3, 1) := dk_29 (dk_at dksX7_unpack_2 23 rfl rfl)
theorem dX7_unpack_70 : decode cX7_unpack 70 = .ok (.iload 4, 2) := dk_21 4 (dk_at dksX7_unpack_3 0 rfl rfl)
theorem dX7_unpack_72 : decode cX7_unpack 72 = .ok (.iadd, 1) := dk_96 (dk_at dksX7_unpack_3 2 rfl rfl)
theorem dX7_unpack_73 : decode cX7_unpack 73 = .ok (.iaload, 1) := dk_46 (dk_at dksX7_unpack_3 3 rfl rfl)
theorem dX7_unpack_74 : decode cX7_unpack 74 = .ok (.iastore, 1) := dk_79 (dk_at dksX7_unpack_3 4 rfl rfl)
theorem dX7_unpack_75 : decode cX7_unpack 75 = .ok (.iinc 4 1, 3) := dk_132 4 1 (dk_at dksX7_unpack_3 5 rfl rfl)
theorem dX7_unpack_78 : decode cX7_unpack 78 = .ok (.goto (-23), 3) := dk_167 255 233 (dk_at dksX7_unpack_3 8 rfl rfl)
theorem dX7_unpack_81 : decode cX7_unpack 81 = .ok (.iconst 0, 1) := dk_3 (dk_at dksX7_unpack_3 11 rfl rfl)
theorem dX7_unpack_82 : decode cX7_unpack 82 = .ok (.istore 4, 2) := dk_54 4 (dk_at dksX7_unpack_3 12 rfl rfl)
theorem dX7_unpack_84 : decode cX7_unpack 84 = .ok (.iload 4, 2) := dk_21 4 (dk_at dksX7_unpack_3 14 rfl rfl)
theorem dX7_unpack_86 : decode cX7_unpack 86 = .ok (.bipush 8, 2) := dk_16 8 (dk_at dksX7_unpack_3 16 rfl rfl)
theorem dX7_unpack_88 : decode cX7_unpack 88 = .ok (.if_icmp .ge 25, 3) := dk_162 0 25 (dk_at dksX7_unpack_3 18 rfl rfl)
theorem dX7_unpack_91 : decode cX7_unpack 91 = .ok (.aload_n 0, 1) := dk_42 (dk_at dksX7_unpack_3 21 rfl rfl)
theorem dX7_unpack_92 : decode cX7_unpack 92 = .ok (.getfield 86, 3) := dk_180 0 86 (dk_at dksX7_unpack_4 0 rfl rfl)
theorem dX7_unpack_95 : decode cX7_unpack 95 = .ok (.iload 4, 2) := dk_21 4 (dk_at dksX7_unpack_4 3 rfl rfl)
theorem dX7_unpack_97 : decode cX7_unpack 97 = .ok (.aload_n 1, 1) := dk_43 (dk_at dksX7_unpack_4 5 rfl rfl)
theorem dX7_unpack_98 : decode cX7_unpack 98 = .ok (.iload_n 3, 1) := dk_29 (dk_at dksX7_unpack_4 6 rfl rfl)
theorem dX7_unpack_99 : decode cX7_unpack 99 = .ok (.bipush 6, 2) := dk_16 6 (dk_at dksX7_unpack_4 7 rfl rfl)
theorem dX7_unpack_101 : decode cX7_unpack 101 = .ok (.iadd, 1) := dk_96 (dk_at dksX7_unpack_4 9 rfl rfl)
theorem dX7_unpack_102 : decode cX7_unpack 102 = .ok (.iload 4, 2) := dk_21 4 (dk_at dksX7_unpack_4 10 rfl rfl)
theorem dX7_unpack_104 : decode cX7_unpack 104 = .ok (.iadd, 1) := dk_96 (dk_at dksX7_unpack_4 12 rfl rfl)
theorem dX7_unpack_105 : decode cX7_unpack 105 = .ok (.iaload, 1) := dk_46 (dk_at dksX7_unpack_4 13 rfl rfl)
theorem dX7_unpack_106 : decode cX7_unpack 106 = .ok (.iastore, 1) := dk_79 (dk_at dksX7_unpack_4 14 rfl rfl)
theorem dX7_unpack_107 : decode cX7_unpack 107 = .ok (.iinc 4 1, 3) := dk_132 4 1 (dk_at dksX7_unpack_4 15 rfl rfl)
theorem dX7_unpack_110 : decode cX7_unpack 110 = .ok (.goto (-26), 3) := dk_167 255 230 (dk_at dksX7_unpack_4 18 rfl rfl)
theorem dX7_unpack_113 : decode cX7_unpack 113 = .ok (.return_, 1) := dk_177 (dk_at dksX7_unpack_4 21 rfl rfl)
abbrev cX7_noon : ByteArray := prog_21_method_78_code
def yX7_noon : MethodName := ⟨RX7, "noon", "()I"⟩
def dkwX7_noon_5 : List UInt8 := [167, 255, 235, 2, 172, 42, 4, 181, 1, 80, 42, 180, 1, 188, 172]
abbrev dktX7_noon_5 : List UInt8 := dkwX7_noon_5 ++ []
def dkwX7_noon_4 : List UInt8 := [3, 61, 28, 16, 6, 162, 0, 21, 42, 180, 0, 108, 28, 42, 180, 0, 111, 28, 46, 79, 132, 2, 1]
abbrev dktX7_noon_4 : List UInt8 := dkwX7_noon_4 ++ dktX7_noon_5
def dkwX7_noon_3 : List UInt8 := [132, 2, 1, 167, 255, 235, 42, 3, 181, 1, 185, 42, 3, 3, 182, 1, 191, 42, 180, 1, 185, 154, 0, 31]
abbrev dktX7_noon_3 : List UInt8 := dkwX7_noon_3 ++ dktX7_noon_4
def dkwX7_noon_2 : List UInt8 := [16, 254, 172, 3, 61, 28, 16, 6, 162, 0, 21, 42, 180, 0, 111, 28, 42, 180, 0, 108, 28, 46, 79]
abbrev dktX7_noon_2 : List UInt8 := dkwX7_noon_2 ++ dktX7_noon_3
def dkwX7_noon_1 : List UInt8 := [28, 46, 2, 160, 0, 7, 4, 167, 0, 4, 3, 96, 60, 132, 2, 1, 167, 255, 225, 27, 8, 164, 0, 6]
abbrev dktX7_noon_1 : List UInt8 := dkwX7_noon_1 ++ dktX7_noon_2
def dkwX7_noon_0 : List UInt8 := [42, 3, 181, 0, 159, 3, 60, 3, 61, 28, 42, 180, 0, 38, 4, 46, 162, 0, 27, 27, 42, 180, 0, 83]
abbrev dktX7_noon_0 : List UInt8 := dkwX7_noon_0 ++ dktX7_noon_1
theorem dksX7_noon_0 : cX7_noon.data.toList.drop 0 = dktX7_noon_0 := by decide +kernel
theorem dksX7_noon_1 : cX7_noon.data.toList.drop 24 = dktX7_noon_1 := dk_seg dksX7_noon_0 24 rfl rfl
theorem dksX7_noon_2 : cX7_noon.data.toList.drop 48 = dktX7_noon_2 := dk_seg dksX7_noon_1 24 rfl rfl
theorem dksX7_noon_3 : cX7_noon.data.toList.drop 71 = dktX7_noon_3 := dk_seg dksX7_noon_2 23 rfl rfl
theorem dksX7_noon_4 : cX7_noon.data.toList.drop 95 = dktX7_noon_4 := dk_seg dksX7_noon_3 24 rfl rfl
theorem dksX7_noon_5 : cX7_noon.data.toList.drop 118 = dktX7_noon_5 := dk_seg dksX7_noon_4 23 rfl rfl
theorem dX7_noon_0 : decode cX7_noon 0 = .ok (.aload_n 0, 1) := dk_42 (dk_at dksX7_noon_0 0 rfl rfl)
theorem dX7_noon_1 : decode cX7_noon 1 = .ok (.iconst 0, 1) := dk_3 (dk_at dksX7_noon_0 1 rfl rfl)
theorem dX7_noon_2 : decode cX7_noon 2 = .ok (.putfield 159, 3) := dk_181 0 159 (dk_at dksX7_noon_0 2 rfl rfl)
theorem dX7_noon_5 : decode cX7_noon 5 = .ok (.iconst 0, 1) := dk_3 (dk_at dksX7_noon_0 5 rfl rfl)
theorem dX7_noon_6 : decode cX7_noon 6 = .ok (.istore_n 1, 1) := dk_60 (dk_at dksX7_noon_0 6 rfl rfl)
theorem dX7_noon_7 : decode cX7_noon 7 = .ok (.iconst 0, 1) := dk_3 (dk_at dksX7_noon_0 7 rfl rfl)
theorem dX7_noon_8 : decode cX7_noon 8 = .ok (.istore_n 2, 1) := dk_61 (dk_at dksX7_noon_0 8 rfl rfl)
theorem dX7_noon_9 : decode cX7_noon 9 = .ok (.iload_n 2, 1) := dk_28 (dk_at dksX7_noon_0 9 rfl rfl)
theorem dX7_noon_10 : decode cX7_noon 10 = .ok (.aload_n 0, 1) := dk_42 (dk_at dksX7_noon_0 10 rfl rfl)
theorem dX7_noon_11 : decode cX7_noon 11 = .ok (.getfield 38, 3) := dk_180 0 38 (dk_at dksX7_noon_0 11 rfl rfl)
theorem dX7_noon_14 : decode cX7_noon 14 = .ok (.iconst 1, 1) := dk_4 (dk_at dksX7_noon_0 14 rfl rfl)
theorem dX7_noon_15 : decode cX7_noon 15 = .ok (.iaload, 1) := dk_46 (dk_at dksX7_noon_0 15 rfl rfl)
theorem dX7_noon_16 : decode cX7_noon 16 = .ok (.if_icmp .ge 27, 3) := dk_162 0 27 (dk_at dksX7_noon_0 16 rfl rfl)
theorem dX7_noon_19 : decode cX7_noon 19 = .ok (.iload_n 1, 1) := dk_27 (dk_at dksX7_noon_0 19 rfl rfl)
theorem dX7_noon_20 : decode cX7_noon 20 = .ok (.aload_n 0, 1) := dk_42 (dk_at dksX7_noon_0 20 rfl rfl)
theorem dX7_noon_21 : decode cX7_noon 21 = .ok (.getfield 83, 3) := dk_180 0 83 (dk_at dksX7_noon_0 21 rfl rfl)
theorem dX7_noon_24 : decode cX7_noon 24 = .ok (.iload_n 2, 1) := dk_28 (dk_at dksX7_noon_1 0 rfl rfl)
theorem dX7_noon_25 : decode cX7_noon 25 = .ok (.iaload, 1) := dk_46 (dk_at dksX7_noon_1 1 rfl rfl)
theorem dX7_noon_26 : decode cX7_noon 26 = .ok (.iconst (-1), 1) := dk_2 (dk_at dksX7_noon_1 2 rfl rfl)
theorem dX7_noon_27 : decode cX7_noon 27 = .ok (.if_icmp .ne 7, 3) := dk_160 0 7 (dk_at dksX7_noon_1 3 rfl rfl)
theorem dX7_noon_30 : decode cX7_noon 30 = .ok (.iconst 1, 1) := dk_4 (dk_at dksX7_noon_1 6 rfl rfl)
theorem dX7_noon_31 : decode cX7_noon 31 = .ok (.goto 4, 3) := dk_167 0 4 (dk_at dksX7_noon_1 7 rfl rfl)
theorem dX7_noon_34 : decode cX7_noon 34 = .ok (.iconst 0, 1) := dk_3 (dk_at dksX7_noon_1 10 rfl rfl)
theorem dX7_noon_35 : decode cX7_noon 35 = .ok (.iadd, 1) := dk_96 (dk_at dksX7_noon_1 11 rfl rfl)
theorem dX7_noon_36 : decode cX7_noon 36 = .ok (.istore_n 1, 1) := dk_60 (dk_at dksX7_noon_1 12 rfl rfl)
theorem dX7_noon_37 : decode cX7_noon 37 = .ok (.iinc 2 1, 3) := dk_132 2 1 (dk_at dksX7_noon_1 13 rfl rfl)
theorem dX7_noon_40 : decode cX7_noon 40 = .ok (.goto (-31), 3) := dk_167 255 225 (dk_at dksX7_noon_1 16 rfl rfl)
theorem dX7_noon_43 : decode cX7_noon 43 = .ok (.iload_n 1, 1) := dk_27 (dk_at dksX7_noon_1 19 rfl rfl)
theorem dX7_noon_44 : decode cX7_noon 44 = .ok (.iconst 5, 1) := dk_8 (dk_at dksX7_noon_1 20 rfl rfl)
theorem dX7_noon_45 : decode cX7_noon 45 = .ok (.if_icmp .le 6, 3) := dk_164 0 6 (dk_at dksX7_noon_1 21 rfl rfl)
theorem dX7_noon_48 : decode cX7_noon 48 = .ok (.bipush (-2), 2) := dk_16 254 (dk_at dksX7_noon_2 0 rfl rfl)
theorem dX7_noon_50 : decode cX7_noon 50 = .ok (.ireturn, 1) := dk_172 (dk_at dksX7_noon_2 2 rfl rfl)
theorem dX7_noon_51 : decode cX7_noon 51 = .ok (.iconst 0, 1) := dk_3 (dk_at dksX7_noon_2 3 rfl rfl)
theorem dX7_noon_52 : decode cX7_noon 52 = .ok (.istore_n 2, 1) := dk_61 (dk_at dksX7_noon_2 4 rfl rfl)
theorem dX7_noon_53 : decode cX7_noon 53 = .ok (.iload_n 2, 1) := dk_28 (dk_at dksX7_noon_2 5 rfl rfl)
theorem dX7_noon_54 : decode cX7_noon 54 = .ok (.bipush 6, 2) := dk_16 6 (dk_at dksX7_noon_2 6 rfl rfl)
theorem dX7_noon_56 : decode cX7_noon 56 = .ok (.if_icmp .ge 21, 3) := dk_162 0 21 (dk_at dksX7_noon_2 8 rfl rfl)
theorem dX7_noon_59 : decode cX7_noon 59 = .ok (.aload_n 0, 1) := dk_42 (dk_at dksX7_noon_2 11 rfl rfl)
theorem dX7_noon_60 : decode cX7_noon 60 = .ok (.getfield 111, 3) := dk_180 0 111 (dk_at dksX7_noon_2 12 rfl rfl)
theorem dX7_noon_63 : decode cX7_noon 63 = .ok (.iload_n 2, 1) := dk_28 (dk_at dksX7_noon_2 15 rfl rfl)
theorem dX7_noon_64 : decode cX7_noon 64 = .ok (.aload_n 0, 1) := dk_42 (dk_at dksX7_noon_2 16 rfl rfl)
theorem dX7_noon_65 : decode cX7_noon 65 = .ok (.getfield 108, 3) := dk_180 0 108 (dk_at dksX7_noon_2 17 rfl rfl)
theorem dX7_noon_68 : decode cX7_noon 68 = .ok (.iload_n 2, 1) := dk_28 (dk_at dksX7_noon_2 20 rfl rfl)
theorem dX7_noon_69 : decode cX7_noon 69 = .ok (.iaload, 1) := dk_46 (dk_at dksX7_noon_2 21 rfl rfl)
theorem dX7_noon_70 : decode cX7_noon 70 = .ok (.iastore, 1) := dk_79 (dk_at dksX7_noon_2 22 rfl rfl)
theorem dX7_noon_71 : decode cX7_noon 71 = .ok (.iinc 2 1, 3) := dk_132 2 1 (dk_at dksX7_noon_3 0 rfl rfl)
theorem dX7_noon_74 : decode cX7_noon 74 = .ok (.goto (-21), 3) := dk_167 255 235 (dk_at dksX7_noon_3 3 rfl rfl)
theorem dX7_noon_77 : decode cX7_noon 77 = .ok (.aload_n 0, 1) := dk_42 (dk_at dksX7_noon_3 6 rfl rfl)
theorem dX7_noon_78 : decode cX7_noon 78 = .ok (.iconst 0, 1) := dk_3 (dk_at dksX7_noon_3 7 rfl rfl)
theorem dX7_noon_79 : decode cX7_noon 79 = .ok (.putfield 441, 3) := dk_181 1 185 (dk_at dksX7_noon_3 8 rfl rfl)
theorem dX7_noon_82 : decode cX7_noon 82 = .ok (.aload_n 0, 1) := dk_42 (dk_at dksX7_noon_3 11 rfl rfl)
theorem dX7_noon_83 : decode cX7_noon 83 = .ok (.iconst 0, 1) := dk_3 (dk_at dksX7_noon_3 12 rfl rfl)
theorem dX7_noon_84 : decode cX7_noon 84 = .ok (.iconst 0, 1) := dk_3 (dk_at dksX7_noon_3 13 rfl rfl)
theorem dX7_noon_85 : decode cX7_noon 85 = .ok (.invokevirtual 447, 3) := dk_182 1 191 (dk_at dksX7_noon_3 14 rfl rfl)
theorem dX7_noon_88 : decode cX7_noon 88 = .ok (.aload_n 0, 1) := dk_42 (dk_at dksX7_noon_3 17 rfl rfl)
theorem dX7_noon_89 : decode cX7_noon 89 = .ok (.getfield 441, 3) := dk_180 1 185 (dk_at dksX7_noon_3 18 rfl rfl)
theorem dX7_noon_92 : decode cX7_noon 92 = .ok (.ifCond .ne 31, 3) := dk_154 0 31 (dk_at dksX7_noon_3 21 rfl rfl)
theorem dX7_noon_95 : decode cX7_noon 95 = .ok (.iconst 0, 1) := dk_3 (dk_at dksX7_noon_4 0 rfl rfl)
theorem dX7_noon_96 : decode cX7_noon 96 = .ok (.istore_n 2, 1) := dk_61 (dk_at dksX7_noon_4 1 rfl rfl)
theorem dX7_noon_97 : decode cX7_noon 97 = .ok (.iload_n 2, 1) := dk_28 (dk_at dksX7_noon_4 2 rfl rfl)
theorem dX7_noon_98 : decode cX7_noon 98 = .ok (.bipush 6, 2) := dk_16 6 (dk_at dksX7_noon_4 3 rfl rfl)
theorem dX7_noon_100 : decode cX7_noon 100 = .ok (.if_icmp .ge 21, 3) := dk_162 0 21 (dk_at dksX7_noon_4 5 rfl rfl)
theorem dX7_noon_103 : decode cX7_noon 103 = .ok (.aload_n 0, 1) := dk_42 (dk_at dksX7_noon_4 8 rfl rfl)
theorem dX7_noon_104 : decode cX7_noon 104 = .ok (.getfield 108, 3) := dk_180 0 108 (dk_at dksX7_noon_4 9 rfl rfl)
theorem dX7_noon_107 : decode cX7_noon 107 = .ok (.iload_n 2, 1) := dk_28 (dk_at dksX7_noon_4 12 rfl rfl)
theorem dX7_noon_108 : decode cX7_noon 108 = .ok (.aload_n 0, 1) := dk_42 (dk_at dksX7_noon_4 13 rfl rfl)
theorem dX7_noon_109 : decode cX7_noon 109 = .ok (.getfield 111, 3) := dk_180 0 111 (dk_at dksX7_noon_4 14 rfl rfl)
theorem dX7_noon_112 : decode cX7_noon 112 = .ok (.iload_n 2, 1) := dk_28 (dk_at dksX7_noon_4 17 rfl rfl)
theorem dX7_noon_113 : decode cX7_noon 113 = .ok (.iaload, 1) := dk_46 (dk_at dksX7_noon_4 18 rfl rfl)
theorem dX7_noon_114 : decode cX7_noon 114 = .ok (.iastore, 1) := dk_79 (dk_at dksX7_noon_4 19 rfl rfl)
theorem dX7_noon_115 : decode cX7_noon 115 = .ok (.iinc 2 1, 3) := dk_132 2 1 (dk_at dksX7_noon_4 20 rfl rfl)
theorem dX7_noon_118 : decode cX7_noon 118 = .ok (.goto (-21), 3) := dk_167 255 235 (dk_at dksX7_noon_5 0 rfl rfl)
theorem dX7_noon_121 : decode cX7_noon 121 = .ok (.iconst (-1), 1) := dk_2 (dk_at dksX7_noon_5 3 rfl rfl)
theorem dX7_noon_122 : decode cX7_noon 122 = .ok (.ireturn, 1) := dk_172 (dk_at dksX7_noon_5 4 rfl rfl)
theorem dX7_noon_123 : decode cX7_noon 123 = .ok (.aload_n 0, 1) := dk_42 (dk_at dksX7_noon_5 5 rfl rfl)
theorem dX7_noon_124 : decode cX7_noon 124 = .ok (.iconst 1, 1) := dk_4 (dk_at dksX7_noon_5 6 rfl rfl)
theorem dX7_noon_125 : decode cX7_noon 125 = .ok (.putfield 336, 3) := dk_181 1 80 (dk_at dksX7_noon_5 7 rfl rfl)
theorem dX7_noon_128 : decode cX7_noon 128 = .ok (.aload_n 0, 1) := dk_42 (dk_at dksX7_noon_5 10 rfl rfl)
theorem dX7_noon_129 : decode cX7_noon 129 = .ok (.getfield 444, 3) := dk_180 1 188 (dk_at dksX7_noon_5 11 rfl rfl)
theorem dX7_noon_132 : decode cX7_noon 132 = .ok (.ireturn, 1) := dk_172 (dk_at dksX7_noon_5 14 rfl rfl)
abbrev cX7_rowOn : ByteArray := prog_21_method_77_code
def yX7_rowOn : MethodName := ⟨RX7, "rowOn", "(II)V"⟩
def dkwX7_rowOn_7 : List UInt8 := [132, 3, 1, 167, 255, 181, 177]
abbrev dktX7_rowOn_7 : List UInt8 := dkwX7_rowOn_7 ++ []
def dkwX7_rowOn_6 : List UInt8 := [96, 28, 42, 180, 0, 44, 29, 46, 42, 180, 0, 49, 27, 46, 100, 184, 1, 176, 96, 182, 1, 191]
abbrev dktX7_rowOn_6 : List UInt8 := dkwX7_rowOn_6 ++ dktX7_rowOn_7
def dkwX7_rowOn_5 : List UInt8 := [167, 0, 46, 42, 180, 0, 105, 27, 29, 79, 42, 29, 27, 4, 96, 182, 1, 194, 153, 0, 28, 42, 27, 4]
abbrev dktX7_rowOn_5 : List UInt8 := dkwX7_rowOn_5 ++ dktX7_rowOn_6
def dkwX7_rowOn_4 : List UInt8 := [180, 0, 38, 3, 46, 162, 0, 71, 42, 180, 1, 65, 154, 0, 64, 42, 29, 27, 182, 1, 108, 154, 0, 6]
abbrev dktX7_rowOn_4 : List UInt8 := dkwX7_rowOn_4 ++ dktX7_rowOn_5
def dkwX7_rowOn_3 : List UInt8 := [79, 42, 180, 0, 83, 27, 46, 2, 159, 0, 12, 42, 27, 4, 96, 28, 182, 1, 191, 177, 3, 62, 29, 42]
abbrev dktX7_rowOn_3 : List UInt8 := dkwX7_rowOn_3 ++ dktX7_rowOn_4
def dkwX7_rowOn_2 : List UInt8 := [180, 0, 108, 29, 42, 180, 0, 105, 29, 46, 79, 132, 3, 1, 167, 255, 235, 177, 42, 180, 0, 105, 27, 2]
abbrev dktX7_rowOn_2 : List UInt8 := dkwX7_rowOn_2 ++ dktX7_rowOn_3
def dkwX7_rowOn_1 : List UInt8 := [160, 0, 40, 42, 4, 181, 1, 185, 42, 28, 181, 1, 188, 3, 62, 29, 16, 6, 162, 0, 21, 42]
abbrev dktX7_rowOn_1 : List UInt8 := dkwX7_rowOn_1 ++ dktX7_rowOn_2
def dkwX7_rowOn_0 : List UInt8 := [42, 180, 1, 185, 153, 0, 12, 28, 42, 180, 1, 188, 161, 0, 4, 177, 27, 42, 180, 0, 38, 4, 46]
abbrev dktX7_rowOn_0 : List UInt8 := dkwX7_rowOn_0 ++ dktX7_rowOn_1
theorem dksX7_rowOn_0 : cX7_rowOn.data.toList.drop 0 = dktX7_rowOn_0 := by decide +kernel
theorem dksX7_rowOn_1 : cX7_rowOn.data.toList.drop 23 = dktX7_rowOn_1 := dk_seg dksX7_rowOn_0 23 rfl rfl
theorem dksX7_rowOn_2 : cX7_rowOn.data.toList.drop 45 = dktX7_rowOn_2 := dk_seg dksX7_rowOn_1 22 rfl rfl
theorem dksX7_rowOn_3 : cX7_rowOn.data.toList.drop 69 = dktX7_rowOn_3 := dk_seg dksX7_rowOn_2 24 rfl rfl
theorem dksX7_rowOn_4 : cX7_rowOn.data.toList.drop 93 = dktX7_rowOn_4 := dk_seg dksX7_rowOn_3 24 rfl rfl
theorem dksX7_rowOn_5 : cX7_rowOn.data.toList.drop 117 = dktX7_rowOn_5 := dk_seg dksX7_rowOn_4 24 rfl rfl
theorem dksX7_rowOn_6 : cX7_rowOn.data.toList.drop 141 = dktX7_rowOn_6 := dk_seg dksX7_rowOn_5 24 rfl rfl
theorem dksX7_rowOn_7 : cX7_rowOn.data.toList.drop 163 = dktX7_rowOn_7 := dk_seg dksX7_rowOn_6 22 rfl rfl
theorem dX7_rowOn_0 : decode cX7_rowOn 0 = .ok (.aload_n 0, 1) := dk_42 (dk_at dksX7_rowOn_0 0 rfl rfl)
theorem dX7_rowOn_1 : decode cX7_rowOn 1 = .ok (.getfield 441, 3) := dk_180 1 185 (dk_at dksX7_rowOn_0 1 rfl rfl)
theorem dX7_rowOn_4 : decode cX7_rowOn 4 = .ok (.ifCond .eq 12, 3) := dk_153 0 12 (dk_at dksX7_rowOn_0 4 rfl rfl)
theorem dX7_rowOn_7 : decode cX7_rowOn 7 = .ok (.iload_n 2, 1) := dk_28 (dk_at dksX7_rowOn_0 7 rfl rfl)
theorem dX7_rowOn_8 : decode cX7_rowOn 8 = .ok (.aload_n 0, 1) := dk_42 (dk_at dksX7_rowOn_0 8 rfl rfl)
theorem dX7_rowOn_9 : decode cX7_rowOn 9 = .ok (.getfield 444, 3) := dk_180 1 188 (dk_at dksX7_rowOn_0 9 rfl rfl)
theorem dX7_rowOn_12 : decode cX7_rowOn 12 = .ok (.if_icmp .lt 4, 3) := dk_161 0 4 (dk_at dksX7_rowOn_0 12 rfl rfl)
theorem dX7_rowOn_15 : decode cX7_rowOn 15 = .ok (.return_, 1) := dk_177 (dk_at dksX7_rowOn_0 15 rfl rfl)
theorem dX7_rowOn_16 : decode cX7_rowOn 16 = .ok (.iload_n 1, 1) := dk_27 (dk_at dksX7_rowOn_0 16 rfl rfl)
theorem dX7_rowOn_17 : decode cX7_rowOn 17 = .ok (.aload_n 0, 1) := dk_42 (dk_at dksX7_rowOn_0 17 rfl rfl)
theorem dX7_rowOn_18 : decode cX7_rowOn 18 = .ok (.getfield 38, 3) := dk_180 0 38 (dk_at dksX7_rowOn_0 18 rfl rfl)
theorem dX7_rowOn_21 : decode cX7_rowOn 21 = .ok (.iconst 1, 1) := dk_4 (dk_at dksX7_rowOn_0 21 rfl rfl)
theorem dX7_rowOn_22 : decode cX7_rowOn 22 = .ok (.iaload, 1) := dk_46 (dk_at dksX7_rowOn_0 22 rfl rfl)
theorem dX7_rowOn_23 : decode cX7_rowOn 23 = .ok (.if_icmp .ne 40, 3) := dk_160 0 40 (dk_at dksX7_rowOn_1 0 rfl rfl)
theorem dX7_rowOn_26 : decode cX7_rowOn 26 = .ok (.aload_n 0, 1) := dk_42 (dk_at dksX7_rowOn_1 3 rfl rfl)
theorem dX7_rowOn_27 : decode cX7_rowOn 27 = .ok (.iconst 1, 1) := dk_4 (dk_at dksX7_rowOn_1 4 rfl rfl)
theorem dX7_rowOn_28 : decode cX7_rowOn 28 = .ok (.putfield 441, 3) := dk_181 1 185 (dk_at dksX7_rowOn_1 5 rfl rfl)
theorem dX7_rowOn_31 : decode cX7_rowOn 31 = .ok (.aload_n 0, 1) := dk_42 (dk_at dksX7_rowOn_1 8 rfl rfl)
theorem dX7_rowOn_32 : decode cX7_rowOn 32 = .ok (.iload_n 2, 1) := dk_28 (dk_at dksX7_rowOn_1 9 rfl rfl)
theorem dX7_rowOn_33 : decode cX7_rowOn 33 = .ok (.putfield 444, 3) := dk_181 1 188 (dk_at dksX7_rowOn_1 10 rfl rfl)
theorem dX7_rowOn_36 : decode cX7_rowOn 36 = .ok (.iconst 0, 1) := dk_3 (dk_at dksX7_rowOn_1 13 rfl rfl)
theorem dX7_rowOn_37 : decode cX7_rowOn 37 = .ok (.istore_n 3, 1) := dk_62 (dk_at dksX7_rowOn_1 14 rfl rfl)
theorem dX7_rowOn_38 : decode cX7_rowOn 38 = .ok (.iload_n 3, 1) := dk_29 (dk_at dksX7_rowOn_1 15 rfl rfl)
theorem dX7_rowOn_39 : decode cX7_rowOn 39 = .ok (.bipush 6, 2) := dk_16 6 (dk_at dksX7_rowOn_1 16 rfl rfl)
theorem dX7_rowOn_41 : decode cX7_rowOn 41 = .ok (.if_icmp .ge 21, 3) := dk_162 0 21 (dk_at dksX7_rowOn_1 18 rfl rfl)
theorem dX7_rowOn_44 : decode cX7_rowOn 44 = .ok (.aload_n 0, 1) := dk_42 (dk_at dksX7_rowOn_1 21 rfl rfl)
theorem dX7_rowOn_45 : decode cX7_rowOn 45 = .ok (.getfield 108, 3) := dk_180 0 108 (dk_at dksX7_rowOn_2 0 rfl rfl)
theorem dX7_rowOn_48 : decode cX7_rowOn 48 = .ok (.iload_n 3, 1) := dk_29 (dk_at dksX7_rowOn_2 3 rfl rfl)
theorem dX7_rowOn_49 : decode cX7_rowOn 49 = .ok (.aload_n 0, 1) := dk_42 (dk_at dksX7_rowOn_2 4 rfl rfl)
theorem dX7_rowOn_50 : decode cX7_rowOn 50 = .ok (.getfield 105, 3) := dk_180 0 105 (dk_at dksX7_rowOn_2 5 rfl rfl)
theorem dX7_rowOn_53 : decode cX7_rowOn 53 = .ok (.iload_n 3, 1) := dk_29 (dk_at dksX7_rowOn_2 8 rfl rfl)
theorem dX7_rowOn_54 : decode cX7_rowOn 54 = .ok (.iaload, 1) := dk_46 (dk_at dksX7_rowOn_2 9 rfl rfl)
theorem dX7_rowOn_55 : decode cX7_rowOn 55 = .ok (.iastore, 1) := dk_79 (dk_at dksX7_rowOn_2 10 rfl rfl)
theorem dX7_rowOn_56 : decode cX7_rowOn 56 = .ok (.iinc 3 1, 3) := dk_132 3 1 (dk_at dksX7_rowOn_2 11 rfl rfl)
theorem dX7_rowOn_59 : decode cX7_rowOn 59 = .ok (.goto (-21), 3) := dk_167 255 235 (dk_at dksX7_rowOn_2 14 rfl rfl)
theorem dX7_rowOn_62 : decode cX7_rowOn 62 = .ok (.return_, 1) := dk_177 (dk_at dksX7_rowOn_2 17 rfl rfl)
theorem dX7_rowOn_63 : decode cX7_rowOn 63 = .ok (.aload_n 0, 1) := dk_42 (dk_at dksX7_rowOn_2 18 rfl rfl)
theorem dX7_rowOn_64 : decode cX7_rowOn 64 = .ok (.getfield 105, 3) := dk_180 0 105 (dk_at dksX7_rowOn_2 19 rfl rfl)
theorem dX7_rowOn_67 : decode cX7_rowOn 67 = .ok (.iload_n 1, 1) := dk_27 (dk_at dksX7_rowOn_2 22 rfl rfl)
theorem dX7_rowOn_68 : decode cX7_rowOn 68 = .ok (.iconst (-1), 1) := dk_2 (dk_at dksX7_rowOn_2 23 rfl rfl)
theorem dX7_rowOn_69 : decode cX7_rowOn 69 = .ok (.iastore, 1) := dk_79 (dk_at dksX7_rowOn_3 0 rfl rfl)
theorem dX7_rowOn_70 : decode cX7_rowOn 70 = .ok (.aload_n 0, 1) := dk_42 (dk_at dksX7_rowOn_3 1 rfl rfl)
theorem dX7_rowOn_71 : decode cX7_rowOn 71 = .ok (.getfield 83, 3) := dk_180 0 83 (dk_at dksX7_rowOn_3 2 rfl rfl)
theorem dX7_rowOn_74 : decode cX7_rowOn 74 = .ok (.iload_n 1, 1) := dk_27 (dk_at dksX7_rowOn_3 5 rfl rfl)
theorem dX7_rowOn_75 : decode cX7_rowOn 75 = .ok (.iaload, 1) := dk_46 (dk_at dksX7_rowOn_3 6 rfl rfl)
theorem dX7_rowOn_76 : decode cX7_rowOn 76 = .ok (.iconst (-1), 1) := dk_2 (dk_at dksX7_rowOn_3 7 rfl rfl)
theorem dX7_rowOn_77 : decode cX7_rowOn 77 = .ok (.if_icmp .eq 12, 3) := dk_159 0 12 (dk_at dksX7_rowOn_3 8 rfl rfl)
theorem dX7_rowOn_80 : decode cX7_rowOn 80 = .ok (.aload_n 0, 1) := dk_42 (dk_at dksX7_rowOn_3 11 rfl rfl)
theorem dX7_rowOn_81 : decode cX7_rowOn 81 = .ok (.iload_n 1, 1) := dk_27 (dk_at dksX7_rowOn_3 12 rfl rfl)
theorem dX7_rowOn_82 : decode cX7_rowOn 82 = .ok (.iconst 1, 1) := dk_4 (dk_at dksX7_rowOn_3 13 rfl rfl)
theorem dX7_rowOn_83 : decode cX7_rowOn 83 = .ok (.iadd, 1) := dk_96 (dk_at dksX7_rowOn_3 14 rfl rfl)
theorem dX7_rowOn_84 : decode cX7_rowOn 84 = .ok (.iload_n 2, 1) := dk_28 (dk_at dksX7_rowOn_3 15 rfl rfl)
theorem dX7_rowOn_85 : decode cX7_rowOn 85 = .ok (.invokevirtual 447, 3) := dk_182 1 191 (dk_at dksX7_rowOn_3 16 rfl rfl)
theorem dX7_rowOn_88 : decode cX7_rowOn 88 = .ok (.return_, 1) := dk_177 (dk_at dksX7_rowOn_3 19 rfl rfl)
theorem dX7_rowOn_89 : decode cX7_rowOn 89 = .ok (.iconst 0, 1) := dk_3 (dk_at dksX7_rowOn_3 20 rfl rfl)
theorem dX7_rowOn_90 : decode cX7_rowOn 90 = .ok (.istore_n 3, 1) := dk_62 (dk_at dksX7_rowOn_3 21 rfl rfl)
theorem dX7_rowOn_91 : decode cX7_rowOn 91 = .ok (.iload_n 3, 1) := dk_29 (dk_at dksX7_rowOn_3 22 rfl rfl)
theorem dX7_rowOn_92 : decode cX7_rowOn 92 = .ok (.aload_n 0, 1) := dk_42 (dk_at dksX7_rowOn_3 23 rfl rfl)
theorem dX7_rowOn_93 : decode cX7_rowOn 93 = .ok (.getfield 38, 3) := dk_180 0 38 (dk_at dksX7_rowOn_4 0 rfl rfl)
theorem dX7_rowOn_96 : decode cX7_rowOn 96 = .ok (.iconst 0, 1) := dk_3 (dk_at dksX7_rowOn_4 3 rfl rfl)
theorem dX7_rowOn_97 : decode cX7_rowOn 97 = .ok (.iaload, 1) := dk_46 (dk_at dksX7_rowOn_4 4 rfl rfl)
theorem dX7_rowOn_98 : decode cX7_rowOn 98 = .ok (.if_icmp .ge 71, 3) := dk_162 0 71 (dk_at dksX7_rowOn_4 5 rfl rfl)
theorem dX7_rowOn_101 : decode cX7_rowOn 101 = .ok (.aload_n 0, 1) := dk_42 (dk_at dksX7_rowOn_4 8 rfl rfl)
theorem dX7_rowOn_102 : decode cX7_rowOn 102 = .ok (.getfield 321, 3) := dk_180 1 65 (dk_at dksX7_rowOn_4 9 rfl rfl)
theorem dX7_rowOn_105 : decode cX7_rowOn 105 = .ok (.ifCond .ne 64, 3) := dk_154 0 64 (dk_at dksX7_rowOn_4 12 rfl rfl)
theorem dX7_rowOn_108 : decode cX7_rowOn 108 = .ok (.aload_n 0, 1) := dk_42 (dk_at dksX7_rowOn_4 15 rfl rfl)
theorem dX7_rowOn_109 : decode cX7_rowOn 109 = .ok (.iload_n 3, 1) := dk_29 (dk_at dksX7_rowOn_4 16 rfl rfl)
theorem dX7_rowOn_110 : decode cX7_rowOn 110 = .ok (.iload_n 1, 1) := dk_27 (dk_at dksX7_rowOn_4 17 rfl rfl)
theorem dX7_rowOn_111 : decode cX7_rowOn 111 = .ok (.invokevirtual 364, 3) := dk_182 1 108 (dk_at dksX7_rowOn_4 18 rfl rfl)
theorem dX7_rowOn_114 : decode cX7_rowOn 114 = .ok (.ifCond .ne 6, 3) := dk_154 0 6 (dk_at dksX7_rowOn_4 21 rfl rfl)
theorem dX7_rowOn_117 : decode cX7_rowOn 117 = .ok (.goto 46, 3) := dk_167 0 46 (dk_at dksX7_rowOn_5 0 rfl rfl)
theorem dX7_rowOn_120 : decode cX7_rowOn 120 = .ok (.aload_n 0, 1) := dk_42 (dk_at dksX7_rowOn_5 3 rfl rfl)
theorem dX7_rowOn_121 : decode cX7_rowOn 121 = .ok (.getfield 105, 3) := dk_180 0 105 (dk_at dksX7_rowOn_5 4 rfl rfl)
theorem dX7_rowOn_124 : decode cX7_rowOn 124 = .ok (.iload_n 1, 1) := dk_27 (dk_at dksX7_rowOn_5 7 rfl rfl)
theorem dX7_rowOn_125 : decode cX7_rowOn 125 = .ok (.iload_n 3, 1) := dk_29 (dk_at dksX7_rowOn_5 8 rfl rfl)
theorem dX7_rowOn_126 : decode cX7_rowOn 126 = .ok (.iastore, 1) := dk_79 (dk_at dksX7_rowOn_5 9 rfl rfl)
theorem dX7_rowOn_127 : decode cX7_rowOn 127 = .ok (.aload_n 0, 1) := dk_42 (dk_at dksX7_rowOn_5 10 rfl rfl)
theorem dX7_rowOn_128 : decode cX7_rowOn 128 = .ok (.iload_n 3, 1) := dk_29 (dk_at dksX7_rowOn_5 11 rfl rfl)
theorem dX7_rowOn_129 : decode cX7_rowOn 129 = .ok (.iload_n 1, 1) := dk_27 (dk_at dksX7_rowOn_5 12 rfl rfl)
theorem dX7_rowOn_130 : decode cX7_rowOn 130 = .ok (.iconst 1, 1) := dk_4 (dk_at dksX7_rowOn_5 13 rfl rfl)
theorem dX7_rowOn_131 : decode cX7_rowOn 131 = .ok (.iadd, 1) := dk_96 (dk_at dksX7_rowOn_5 14 rfl rfl)
theorem dX7_rowOn_132 : decode cX7_rowOn 132 = .ok (.invokevirtual 450, 3) := dk_182 1 194 (dk_at dksX7_rowOn_5 15 rfl rfl)
theorem dX7_rowOn_135 : decode cX7_rowOn 135 = .ok (.ifCond .eq 28, 3) := dk_153 0 28 (dk_at dksX7_rowOn_5 18 rfl rfl)
theorem dX7_rowOn_138 : decode cX7_rowOn 138 = .ok (.aload_n 0, 1) := dk_42 (dk_at dksX7_rowOn_5 21 rfl rfl)
theorem dX7_rowOn_139 : decode cX7_rowOn 139 = .ok (.iload_n 1, 1) := dk_27 (dk_at dksX7_rowOn_5 22 rfl rfl)
theorem dX7_rowOn_140 : decode cX7_rowOn 140 = .ok (.iconst 1, 1) := dk_4 (dk_at dksX7_rowOn_5 23 rfl rfl)
theorem dX7_rowOn_141 : decode cX7_rowOn 141 = .ok (.iadd, 1) := dk_96 (dk_at dksX7_rowOn_6 0 rfl rfl)
theorem dX7_rowOn_142 : decode cX7_rowOn 142 = .ok (.iload_n 2, 1) := dk_28 (dk_at dksX7_rowOn_6 1 rfl rfl)
theorem dX7_rowOn_143 : decode cX7_rowOn 143 = .ok (.aload_n 0, 1) := dk_42 (dk_at dksX7_rowOn_6 2 rfl rfl)
theorem dX7_rowOn_144 : decode cX7_rowOn 144 = .ok (.getfield 44, 3) := dk_180 0 44 (dk_at dksX7_rowOn_6 3 rfl rfl)
theorem dX7_rowOn_147 : decode cX7_rowOn 147 = .ok (.iload_n 3, 1) := dk_29 (dk_at dksX7_rowOn_6 6 rfl rfl)
theorem dX7_rowOn_148 : decode cX7_rowOn 148 = .ok (.iaload, 1) := dk_46 (dk_at dksX7_rowOn_6 7 rfl rfl)
theorem dX7_rowOn_149 : decode cX7_rowOn 149 = .ok (.aload_n 0, 1) := dk_42 (dk_at dksX7_rowOn_6 8 rfl rfl)
theorem dX7_rowOn_150 : decode cX7_rowOn 150 = .ok (.getfield 49, 3) := dk_180 0 49 (dk_at dksX7_rowOn_6 9 rfl rfl)
theorem dX7_rowOn_153 : decode cX7_rowOn 153 = .ok (.iload_n 1, 1) := dk_27 (dk_at dksX7_rowOn_6 12 rfl rfl)
theorem dX7_rowOn_154 : decode cX7_rowOn 154 = .ok (.iaload, 1) := dk_46 (dk_at dksX7_rowOn_6 13 rfl rfl)
theorem dX7_rowOn_155 : decode cX7_rowOn 155 = .ok (.isub, 1) := dk_100 (dk_at dksX7_rowOn_6 14 rfl rfl)
theorem dX7_rowOn_156 : decode cX7_rowOn 156 = .ok (.invokestatic 432, 3) := dk_184 1 176 (dk_at dksX7_rowOn_6 15 rfl rfl)
theorem dX7_rowOn_159 : decode cX7_rowOn 159 = .ok (.iadd, 1) := dk_96 (dk_at dksX7_rowOn_6 18 rfl rfl)
theorem dX7_rowOn_160 : decode cX7_rowOn 160 = .ok (.invokevirtual 447, 3) := dk_182 1 191 (dk_at dksX7_rowOn_6 19 rfl rfl)
theorem dX7_rowOn_163 : decode cX7_rowOn 163 = .ok (.iinc 3 1, 3) := dk_132 3 1 (dk_at dksX7_rowOn_7 0 rfl rfl)
theorem dX7_rowOn_166 : decode cX7_rowOn 166 = .ok (.goto (-75), 3) := dk_167 255 181 (dk_at dksX7_rowOn_7 3 rfl rfl)
theorem dX7_rowOn_169 : decode cX7_rowOn 169 = .ok (.return_, 1) := dk_177 (dk_at dksX7_rowOn_7 6 rfl rfl)
abbrev cX7_canCut : ByteArray := prog_21_method_50_code
def yX7_canCut : MethodName := ⟨RX7, "canCut", "(II)Z"⟩
def dkwX7_canCut_0 : List UInt8 := [42, 27, 28, 182, 1, 105, 62, 29, 153, 0, 8, 29, 6, 164, 0, 7, 4, 167, 0, 4, 3, 172]
abbrev dktX7_canCut_0 : List UInt8 := dkwX7_canCut_0 ++ []
theorem dksX7_canCut_0 : cX7_canCut.data.toList.drop 0 = dktX7_canCut_0 := by decide +kernel
theorem dX7_canCut_0 : decode cX7_canCut 0 = .ok (.aload_n 0, 1) := dk_42 (dk_at dksX7_canCut_0 0 rfl rfl)
theorem dX7_canCut_1 : decode cX7_canCut 1 = .ok (.iload_n 1, 1) := dk_27 (dk_at dksX7_canCut_0 1 rfl rfl)
theorem dX7_canCut_2 : decode cX7_canCut 2 = .ok (.iload_n 2, 1) := dk_28 (dk_at dksX7_canCut_0 2 rfl rfl)
theorem dX7_canCut_3 : decode cX7_canCut 3 = .ok (.invokevirtual 361, 3) := dk_182 1 105 (dk_at dksX7_canCut_0 3 rfl rfl)
theorem dX7_canCut_6 : decode cX7_canCut 6 = .ok (.istore_n 3, 1) := dk_62 (dk_at dksX7_canCut_0 6 rfl rfl)
theorem dX7_canCut_7 : decode cX7_canCut 7 = .ok (.iload_n 3, 1) := dk_29 (dk_at dksX7_canCut_0 7 rfl rfl)
theorem dX7_canCut_8 : decode cX7_canCut 8 = .ok (.ifCond .eq 8, 3) := dk_153 0 8 (dk_at dksX7_canCut_0 8 rfl rfl)
theorem dX7_canCut_11 : decode cX7_canCut 11 = .ok (.iload_n 3, 1) := dk_29 (dk_at dksX7_canCut_0 11 rfl rfl)
theorem dX7_canCut_12 : decode cX7_canCut 12 = .ok (.iconst 3, 1) := dk_6 (dk_at dksX7_canCut_0 12 rfl rfl)
theorem dX7_canCut_13 : decode cX7_canCut 13 = .ok (.if_icmp .le 7, 3) := dk_164 0 7 (dk_at dksX7_canCut_0 13 rfl rfl)
theorem dX7_canCut_16 : decode cX7_canCut 16 = .ok (.iconst 1, 1) := dk_4 (dk_at dksX7_canCut_0 16 rfl rfl)
theorem dX7_canCut_17 : decode cX7_canCut 17 = .ok (.goto 4, 3) := dk_167 0 4 (dk_at dksX7_canCut_0 17 rfl rfl)
theorem dX7_canCut_20 : decode cX7_canCut 20 = .ok (.iconst 0, 1) := dk_3 (dk_at dksX7_canCut_0 20 rfl rfl)
theorem dX7_canCut_21 : decode cX7_canCut 21 = .ok (.ireturn, 1) := dk_172 (dk_at dksX7_canCut_0 21 rfl rfl)
abbrev cX7_isInTime : ByteArray := prog_21_method_76_code
def yX7_isInTime : MethodName := ⟨RX7, "isInTime", "(II)Z"⟩
def dkwX7_isInTime_6 : List UInt8 := [2, 130, 126, 62, 132, 4, 1, 167, 255, 147, 29, 154, 0, 7, 4, 167, 0, 4, 3, 172]
abbrev dktX7_isInTime_6 : List UInt8 := dkwX7_isInTime_6 ++ []
def dkwX7_isInTime_5 : List UInt8 := [162, 0, 7, 21, 6, 54, 5, 132, 6, 1, 167, 255, 185, 21, 5, 2, 159, 0, 12, 29, 4, 21, 5, 120]
abbrev dktX7_isInTime_5 : List UInt8 := dkwX7_isInTime_5 ++ dktX7_isInTime_6
def dkwX7_isInTime_4 : List UInt8 := [21, 4, 163, 0, 28, 21, 5, 2, 159, 0, 18, 42, 21, 6, 182, 1, 179, 42, 21, 5, 182, 1, 179]
abbrev dktX7_isInTime_4 : List UInt8 := dkwX7_isInTime_4 ++ dktX7_isInTime_5
def dkwX7_isInTime_3 : List UInt8 := [167, 0, 53, 42, 21, 6, 182, 1, 179, 21, 4, 162, 0, 5, 3, 172, 42, 27, 21, 6, 182, 1, 182]
abbrev dktX7_isInTime_3 : List UInt8 := dkwX7_isInTime_3 ++ dktX7_isInTime_4
def dkwX7_isInTime_2 : List UInt8 := [153, 0, 104, 2, 54, 5, 3, 54, 6, 21, 6, 28, 162, 0, 71, 29, 21, 6, 184, 1, 22, 154, 0, 6]
abbrev dktX7_isInTime_2 : List UInt8 := dkwX7_isInTime_2 ++ dktX7_isInTime_3
def dkwX7_isInTime_1 : List UInt8 := [21, 4, 120, 128, 62, 132, 4, 1, 167, 255, 229, 3, 54, 4, 21, 4, 16, 24, 162, 0, 108, 29]
abbrev dktX7_isInTime_1 : List UInt8 := dkwX7_isInTime_1 ++ dktX7_isInTime_2
def dkwX7_isInTime_0 : List UInt8 := [3, 62, 3, 54, 4, 21, 4, 28, 162, 0, 27, 42, 180, 0, 105, 21, 4, 46, 27, 160, 0, 10, 29, 4]
abbrev dktX7_isInTime_0 : List UInt8 := dkwX7_isInTime_0 ++ dktX7_isInTime_1
theorem dksX7_isInTime_0 : cX7_isInTime.data.toList.drop 0 = dktX7_isInTime_0 := by decide +kernel
theorem dksX7_isInTime_1 : cX7_isInTime.data.toList.drop 24 = dktX7_isInTime_1 := dk_seg dksX7_isInTime_0 24 rfl rfl
theorem dksX7_isInTime_2 : cX7_isInTime.data.toList.drop 46 = dktX7_isInTime_2 := dk_seg dksX7_isInTime_1 22 rfl rfl
theorem dksX7_isInTime_3 : cX7_isInTime.data.toList.drop 70 = dktX7_isInTime_3 := dk_seg dksX7_isInTime_2 24 rfl rfl
theorem dksX7_isInTime_4 : cX7_isInTime.data.toList.drop 93 = dktX7_isInTime_4 := dk_seg dksX7_isInTime_3 23 rfl rfl
theorem dksX7_isInTime_5 : cX7_isInTime.data.toList.drop 116 = dktX7_isInTime_5 := dk_seg dksX7_isInTime_4 23 rfl rfl
theorem dksX7_isInTime_6 : cX7_isInTime.data.toList.drop 140 = dktX7_isInTime_6 := dk_seg dksX7_isInTime_5 24 rfl rfl
theorem dX7_isInTime_0 : decode cX7_isInTime 0 = .ok (.iconst 0, 1) := dk_3 (dk_at dksX7_isInTime_0 0 rfl rfl)
theorem dX7_isInTime_1 : decode cX7_isInTime 1 = .ok (.istore_n 3, 1) := dk_62 (dk_at dksX7_isInTime_0 1 rfl rfl)
theorem dX7_isInTime_2 : decode cX7_isInTime 2 = .ok (.iconst 0, 1) := dk_3 (dk_at dksX7_isInTime_0 2 rfl rfl)
theorem dX7_isInTime_3 : decode cX7_isInTime 3 = .ok (.istore 4, 2) := dk_54 4 (dk_at dksX7_isInTime_0 3 rfl rfl)
theorem dX7_isInTime_5 : decode cX7_isInTime 5 = .ok (.iload 4, 2) := dk_21 4 (dk_at dksX7_isInTime_0 5 rfl rfl)
theorem dX7_isInTime_7 : decode cX7_isInTime 7 = .ok (.iload_n 2, 1) := dk_28 (dk_at dksX7_isInTime_0 7 rfl rfl)
theorem dX7_isInTime_8 : decode cX7_isInTime 8 = .ok (.if_icmp .ge 27, 3) := dk_162 0 27 (dk_at dksX7_isInTime_0 8 rfl rfl)
theorem dX7_isInTime_11 : decode cX7_isInTime 11 = .ok (.aload_n 0, 1) := dk_42 (dk_at dksX7_isInTime_0 11 rfl rfl)
theorem dX7_isInTime_12 : decode cX7_isInTime 12 = .ok (.getfield 105, 3) := dk_180 0 105 (dk_at dksX7_isInTime_0 12 rfl rfl)
theorem dX7_isInTime_15 : decode cX7_isInTime 15 = .ok (.iload 4, 2) := dk_21 4 (dk_at dksX7_isInTime_0 15 rfl rfl)
theorem dX7_isInTime_17 : decode cX7_isInTime 17 = .ok (.iaload, 1) := dk_46 (dk_at dksX7_isInTime_0 17 rfl rfl)
theorem dX7_isInTime_18 : decode cX7_isInTime 18 = .ok (.iload_n 1, 1) := dk_27 (dk_at dksX7_isInTime_0 18 rfl rfl)
theorem dX7_isInTime_19 : decode cX7_isInTime 19 = .ok (.if_icmp .ne 10, 3) := dk_160 0 10 (dk_at dksX7_isInTime_0 19 rfl rfl)
theorem dX7_isInTime_22 : decode cX7_isInTime 22 = .ok (.iload_n 3, 1) := dk_29 (dk_at dksX7_isInTime_0 22 rfl rfl)
theorem dX7_isInTime_23 : decode cX7_isInTime 23 = .ok (.iconst 1, 1) := dk_4 (dk_at dksX7_isInTime_0 23 rfl rfl)
theorem dX7_isInTime_24 : decode cX7_isInTime 24 = .ok (.iload 4, 2) := dk_21 4 (dk_at dksX7_isInTime_1 0 rfl rfl)
theorem dX7_isInTime_26 : decode cX7_isInTime 26 = .ok (.ishl, 1) := dk_120 (dk_at dksX7_isInTime_1 2 rfl rfl)
theorem dX7_isInTime_27 : decode cX7_isInTime 27 = .ok (.ior, 1) := dk_128 (dk_at dksX7_isInTime_1 3 rfl rfl)
theorem dX7_isInTime_28 : decode cX7_isInTime 28 = .ok (.istore_n 3, 1) := dk_62 (dk_at dksX7_isInTime_1 4 rfl rfl)
theorem dX7_isInTime_29 : decode cX7_isInTime 29 = .ok (.iinc 4 1, 3) := dk_132 4 1 (dk_at dksX7_isInTime_1 5 rfl rfl)
theorem dX7_isInTime_32 : decode cX7_isInTime 32 = .ok (.goto (-27), 3) := dk_167 255 229 (dk_at dksX7_isInTime_1 8 rfl rfl)
theorem dX7_isInTime_35 : decode cX7_isInTime 35 = .ok (.iconst 0, 1) := dk_3 (dk_at dksX7_isInTime_1 11 rfl rfl)
theorem dX7_isInTime_36 : decode cX7_isInTime 36 = .ok (.istore 4, 2) := dk_54 4 (dk_at dksX7_isInTime_1 12 rfl rfl)
theorem dX7_isInTime_38 : decode cX7_isInTime 38 = .ok (.iload 4, 2) := dk_21 4 (dk_at dksX7_isInTime_1 14 rfl rfl)
theorem dX7_isInTime_40 : decode cX7_isInTime 40 = .ok (.bipush 24, 2) := dk_16 24 (dk_at dksX7_isInTime_1 16 rfl rfl)
theorem dX7_isInTime_42 : decode cX7_isInTime 42 = .ok (.if_icmp .ge 108, 3) := dk_162 0 108 (dk_at dksX7_isInTime_1 18 rfl rfl)
theorem dX7_isInTime_45 : decode cX7_isInTime 45 = .ok (.iload_n 3, 1) := dk_29 (dk_at dksX7_isInTime_1 21 rfl rfl)
theorem dX7_isInTime_46 : decode cX7_isInTime 46 = .ok (.ifCond .eq 104, 3) := dk_153 0 104 (dk_at dksX7_isInTime_2 0 rfl rfl)
theorem dX7_isInTime_49 : decode cX7_isInTime 49 = .ok (.iconst (-1), 1) := dk_2 (dk_at dksX7_isInTime_2 3 rfl rfl)
theorem dX7_isInTime_50 : decode cX7_isInTime 50 = .ok (.istore 5, 2) := dk_54 5 (dk_at dksX7_isInTime_2 4 rfl rfl)
theorem dX7_isInTime_52 : decode cX7_isInTime 52 = .ok (.iconst 0, 1) := dk_3 (dk_at dksX7_isInTime_2 6 rfl rfl)
theorem dX7_isInTime_53 : decode cX7_isInTime 53 = .ok (.istore 6, 2) := dk_54 6 (dk_at dksX7_isInTime_2 7 rfl rfl)
theorem dX7_isInTime_55 : decode cX7_isInTime 55 = .ok (.iload 6, 2) := dk_21 6 (dk_at dksX7_isInTime_2 9 rfl rfl)
theorem dX7_isInTime_57 : decode cX7_isInTime 57 = .ok (.iload_n 2, 1) := dk_28 (dk_at dksX7_isInTime_2 11 rfl rfl)
theorem dX7_isInTime_58 : decode cX7_isInTime 58 = .ok (.if_icmp .ge 71, 3) := dk_162 0 71 (dk_at dksX7_isInTime_2 12 rfl rfl)
theorem dX7_isInTime_61 : decode cX7_isInTime 61 = .ok (.iload_n 3, 1) := dk_29 (dk_at dksX7_isInTime_2 15 rfl rfl)
theorem dX7_isInTime_62 : decode cX7_isInTime 62 = .ok (.iload 6, 2) := dk_21 6 (dk_at dksX7_isInTime_2 16 rfl rfl)
theorem dX7_isInTime_64 : decode cX7_isInTime 64 = .ok (.invokestatic 278, 3) := dk_184 1 22 (dk_at dksX7_isInTime_2 18 rfl rfl)
theorem dX7_isInTime_67 : decode cX7_isInTime 67 = .ok (.ifCond .ne 6, 3) := dk_154 0 6 (dk_at dksX7_isInTime_2 21 rfl rfl)
theorem dX7_isInTime_70 : decode cX7_isInTime 70 = .ok (.goto 53, 3) := dk_167 0 53 (dk_at dksX7_isInTime_3 0 rfl rfl)
theorem dX7_isInTime_73 : decode cX7_isInTime 73 = .ok (.aload_n 0, 1) := dk_42 (dk_at dksX7_isInTime_3 3 rfl rfl)
theorem dX7_isInTime_74 : decode cX7_isInTime 74 = .ok (.iload 6, 2) := dk_21 6 (dk_at dksX7_isInTime_3 4 rfl rfl)
theorem dX7_isInTime_76 : decode cX7_isInTime 76 = .ok (.invokevirtual 435, 3) := dk_182 1 179 (dk_at dksX7_isInTime_3 6 rfl rfl)
theorem dX7_isInTime_79 : decode cX7_isInTime 79 = .ok (.iload 4, 2) := dk_21 4 (dk_at dksX7_isInTime_3 9 rfl rfl)
theorem dX7_isInTime_81 : decode cX7_isInTime 81 = .ok (.if_icmp .ge 5, 3) := dk_162 0 5 (dk_at dksX7_isInTime_3 11 rfl rfl)
theorem dX7_isInTime_84 : decode cX7_isInTime 84 = .ok (.iconst 0, 1) := dk_3 (dk_at dksX7_isInTime_3 14 rfl rfl)
theorem dX7_isInTime_85 : decode cX7_isInTime 85 = .ok (.ireturn, 1) := dk_172 (dk_at dksX7_isInTime_3 15 rfl rfl)
theorem dX7_isInTime_86 : decode cX7_isInTime 86 = .ok (.aload_n 0, 1) := dk_42 (dk_at dksX7_isInTime_3 16 rfl rfl)
theorem dX7_isInTime_87 : decode cX7_isInTime 87 = .ok (.iload_n 1, 1) := dk_27 (dk_at dksX7_isInTime_3 17 rfl rfl)
theorem dX7_isInTime_88 : decode cX7_isInTime 88 = .ok (.iload 6, 2) := dk_21 6 (dk_at dksX7_isInTime_3 18 rfl rfl)
theorem dX7_isInTime_90 : decode cX7_isInTime 90 = .ok (.invokevirtual 438, 3) := dk_182 1 182 (dk_at dksX7_isInTime_3 20 rfl rfl)
theorem dX7_isInTime_93 : decode cX7_isInTime 93 = .ok (.iload 4, 2) := dk_21 4 (dk_at dksX7_isInTime_4 0 rfl rfl)
theorem dX7_isInTime_95 : decode cX7_isInTime 95 = .ok (.if_icmp .gt 28, 3) := dk_163 0 28 (dk_at dksX7_isInTime_4 2 rfl rfl)
theorem dX7_isInTime_98 : decode cX7_isInTime 98 = .ok (.iload 5, 2) := dk_21 5 (dk_at dksX7_isInTime_4 5 rfl rfl)
theorem dX7_isInTime_100 : decode cX7_isInTime 100 = .ok (.iconst (-1), 1) := dk_2 (dk_at dksX7_isInTime_4 7 rfl rfl)
theorem dX7_isInTime_101 : decode cX7_isInTime 101 = .ok (.if_icmp .eq 18, 3) := dk_159 0 18 (dk_at dksX7_isInTime_4 8 rfl rfl)
theorem dX7_isInTime_104 : decode cX7_isInTime 104 = .ok (.aload_n 0, 1) := dk_42 (dk_at dksX7_isInTime_4 11 rfl rfl)
theorem dX7_isInTime_105 : decode cX7_isInTime 105 = .ok (.iload 6, 2) := dk_21 6 (dk_at dksX7_isInTime_4 12 rfl rfl)
theorem dX7_isInTime_107 : decode cX7_isInTime 107 = .ok (.invokevirtual 435, 3) := dk_182 1 179 (dk_at dksX7_isInTime_4 14 rfl rfl)
theorem dX7_isInTime_110 : decode cX7_isInTime 110 = .ok (.aload_n 0, 1) := dk_42 (dk_at dksX7_isInTime_4 17 rfl rfl)
theorem dX7_isInTime_111 : decode cX7_isInTime 111 = .ok (.iload 5, 2) := dk_21 5 (dk_at dksX7_isInTime_4 18 rfl rfl)
theorem dX7_isInTime_113 : decode cX7_isInTime 113 = .ok (.invokevirtual 435, 3) := dk_182 1 179 (dk_at dksX7_isInTime_4 20 rfl rfl)
theorem dX7_isInTime_116 : decode cX7_isInTime 116 = .ok (.if_icmp .ge 7, 3) := dk_162 0 7 (dk_at dksX7_isInTime_5 0 rfl rfl)
theorem dX7_isInTime_119 : decode cX7_isInTime 119 = .ok (.iload 6, 2) := dk_21 6 (dk_at dksX7_isInTime_5 3 rfl rfl)
theorem dX7_isInTime_121 : decode cX7_isInTime 121 = .ok (.istore 5, 2) := dk_54 5 (dk_at dksX7_isInTime_5 5 rfl rfl)
theorem dX7_isInTime_123 : decode cX7_isInTime 123 = .ok (.iinc 6 1, 3) := dk_132 6 1 (dk_at dksX7_isInTime_5 7 rfl rfl)
theorem dX7_isInTime_126 : decode cX7_isInTime 126 = .ok (.goto (-71), 3) := dk_167 255 185 (dk_at dksX7_isInTime_5 10 rfl rfl)
theorem dX7_isInTime_129 : decode cX7_isInTime 129 = .ok (.iload 5, 2) := dk_21 5 (dk_at dksX7_isInTime_5 13 rfl rfl)
theorem dX7_isInTime_131 : decode cX7_isInTime 131 = .ok (.iconst (-1), 1) := dk_2 (dk_at dksX7_isInTime_5 15 rfl rfl)
theorem dX7_isInTime_132 : decode cX7_isInTime 132 = .ok (.if_icmp .eq 12, 3) := dk_159 0 12 (dk_at dksX7_isInTime_5 16 rfl rfl)
theorem dX7_isInTime_135 : decode cX7_isInTime 135 = .ok (.iload_n 3, 1) := dk_29 (dk_at dksX7_isInTime_5 19 rfl rfl)
theorem dX7_isInTime_136 : decode cX7_isInTime 136 = .ok (.iconst 1, 1) := dk_4 (dk_at dksX7_isInTime_5 20 rfl rfl)
theorem dX7_isInTime_137 : decode cX7_isInTime 137 = .ok (.iload 5, 2) := dk_21 5 (dk_at dksX7_isInTime_5 21 rfl rfl)
theorem dX7_isInTime_139 : decode cX7_isInTime 139 = .ok (.ishl, 1) := dk_120 (dk_at dksX7_isInTime_5 23 rfl rfl)
theorem dX7_isInTime_140 : decode cX7_isInTime 140 = .ok (.iconst (-1), 1) := dk_2 (dk_at dksX7_isInTime_6 0 rfl rfl)
theorem dX7_isInTime_141 : decode cX7_isInTime 141 = .ok (.ixor, 1) := dk_130 (dk_at dksX7_isInTime_6 1 rfl rfl)
theorem dX7_isInTime_142 : decode cX7_isInTime 142 = .ok (.iand, 1) := dk_126 (dk_at dksX7_isInTime_6 2 rfl rfl)
theorem dX7_isInTime_143 : decode cX7_isInTime 143 = .ok (.istore_n 3, 1) := dk_62 (dk_at dksX7_isInTime_6 3 rfl rfl)
theorem dX7_isInTime_144 : decode cX7_isInTime 144 = .ok (.iinc 4 1, 3) := dk_132 4 1 (dk_at dksX7_isInTime_6 4 rfl rfl)
theorem dX7_isInTime_147 : decode cX7_isInTime 147 = .ok (.goto (-109), 3) := dk_167 255 147 (dk_at dksX7_isInTime_6 7 rfl rfl)
theorem dX7_isInTime_150 : decode cX7_isInTime 150 = .ok (.iload_n 3, 1) := dk_29 (dk_at dksX7_isInTime_6 10 rfl rfl)
theorem dX7_isInTime_151 : decode cX7_isInTime 151 = .ok (.ifCond .ne 7, 3) := dk_154 0 7 (dk_at dksX7_isInTime_6 11 rfl rfl)
theorem dX7_isInTime_154 : decode cX7_isInTime 154 = .ok (.iconst 1, 1) := dk_4 (dk_at dksX7_isInTime_6 14 rfl rfl)
theorem dX7_isInTime_155 : decode cX7_isInTime 155 = .ok (.goto 4, 3) := dk_167 0 4 (dk_at dksX7_isInTime_6 15 rfl rfl)
theorem dX7_isInTime_158 : decode cX7_isInTime 158 = .ok (.iconst 0, 1) := dk_3 (dk_at dksX7_isInTime_6 18 rfl rfl)
theorem dX7_isInTime_159 : decode cX7_isInTime 159 = .ok (.ireturn, 1) := dk_172 (dk_at dksX7_isInTime_6 19 rfl rfl)
abbrev cX7_until : ByteArray := prog_21_method_75_code
def yX7_until : MethodName := ⟨RX7, "until", "(I)I"⟩
def dkwX7_until_0 : List UInt8 := [42, 180, 0, 38, 7, 46, 42, 180, 0, 55, 27, 46, 42, 180, 0, 58, 27, 46, 96, 184, 0, 195, 172]
abbrev dktX7_until_0 : List UInt8 := dkwX7_until_0 ++ []
theorem dksX7_until_0 : cX7_until.data.toList.drop 0 = dktX7_until_0 := by decide +kernel
theorem dX7_until_0 : decode cX7_until 0 = .ok (.aload_n 0, 1) := dk_42 (dk_at dksX7_until_0 0 rfl rfl)
theorem dX7_until_1 : decode cX7_until 1 = .ok (.getfield 38, 3) := dk_180 0 38 (dk_at dksX7_until_0 1 rfl rfl)
theorem dX7_until_4 : decode cX7_until 4 = .ok (.iconst 4, 1) := dk_7 (dk_at dksX7_until_0 4 rfl rfl)
theorem dX7_until_5 : decode cX7_until 5 = .ok (.iaload, 1) := dk_46 (dk_at dksX7_until_0 5 rfl rfl)
theorem dX7_until_6 : decode cX7_until 6 = .ok (.aload_n 0, 1) := dk_42 (dk_at dksX7_until_0 6 rfl rfl)
theorem dX7_until_7 : decode cX7_until 7 = .ok (.getfield 55, 3) := dk_180 0 55 (dk_at dksX7_until_0 7 rfl rfl)
theorem dX7_until_10 : decode cX7_until 10 = .ok (.iload_n 1, 1) := dk_27 (dk_at dksX7_until_0 10 rfl rfl)
theorem dX7_until_11 : decode cX7_until 11 = .ok (.iaload, 1) := dk_46 (dk_at dksX7_until_0 11 rfl rfl)
theorem dX7_until_12 : decode cX7_until 12 = .ok (.aload_n 0, 1) := dk_42 (dk_at dksX7_until_0 12 rfl rfl)
theorem dX7_until_13 : decode cX7_until 13 = .ok (.getfield 58, 3) := dk_180 0 58 (dk_at dksX7_until_0 13 rfl rfl)
theorem dX7_until_16 : decode cX7_until 16 = .ok (.iload_n 1, 1) := dk_27 (dk_at dksX7_until_0 16 rfl rfl)
theorem dX7_until_17 : decode cX7_until 17 = .ok (.iaload, 1) := dk_46 (dk_at dksX7_until_0 17 rfl rfl)
theorem dX7_until_18 : decode cX7_until 18 = .ok (.iadd, 1) := dk_96 (dk_at dksX7_until_0 18 rfl rfl)
theorem dX7_until_19 : decode cX7_until 19 = .ok (.invokestatic 195, 3) := dk_184 0 195 (dk_at dksX7_until_0 19 rfl rfl)
theorem dX7_until_22 : decode cX7_until 22 = .ok (.ireturn, 1) := dk_172 (dk_at dksX7_until_0 22 rfl rfl)
abbrev cX7_from : ByteArray := prog_21_method_74_code
def yX7_from : MethodName := ⟨RX7, "from", "(II)I"⟩
def dkwX7_from_1 : List UInt8 := [46, 100, 184, 1, 176, 96, 172]
abbrev dktX7_from_1 : List UInt8 := dkwX7_from_1 ++ []
def dkwX7_from_0 : List UInt8 := [42, 180, 1, 68, 42, 180, 0, 55, 28, 46, 184, 1, 29, 42, 180, 0, 44, 27, 46, 42, 180, 0, 49, 28]
abbrev dktX7_from_0 : List UInt8 := dkwX7_from_0 ++ dktX7_from_1
theorem dksX7_from_0 : cX7_from.data.toList.drop 0 = dktX7_from_0 := by decide +kernel
theorem dksX7_from_1 : cX7_from.data.toList.drop 24 = dktX7_from_1 := dk_seg dksX7_from_0 24 rfl rfl
theorem dX7_from_0 : decode cX7_from 0 = .ok (.aload_n 0, 1) := dk_42 (dk_at dksX7_from_0 0 rfl rfl)
theorem dX7_from_1 : decode cX7_from 1 = .ok (.getfield 324, 3) := dk_180 1 68 (dk_at dksX7_from_0 1 rfl rfl)
theorem dX7_from_4 : decode cX7_from 4 = .ok (.aload_n 0, 1) := dk_42 (dk_at dksX7_from_0 4 rfl rfl)
theorem dX7_from_5 : decode cX7_from 5 = .ok (.getfield 55, 3) := dk_180 0 55 (dk_at dksX7_from_0 5 rfl rfl)
theorem dX7_from_8 : decode cX7_from 8 = .ok (.iload_n 2, 1) := dk_28 (dk_at dksX7_from_0 8 rfl rfl)
theorem dX7_from_9 : decode cX7_from 9 = .ok (.iaload, 1) := dk_46 (dk_at dksX7_from_0 9 rfl rfl)
theorem dX7_from_10 : decode cX7_from 10 = .ok (.invokestatic 285, 3) := dk_184 1 29 (dk_at dksX7_from_0 10 rfl rfl)
theorem dX7_from_13 : decode cX7_from 13 = .ok (.aload_n 0, 1) := dk_42 (dk_at dksX7_from_0 13 rfl rfl)
theorem dX7_from_14 : decode cX7_from 14 = .ok (.getfield 44, 3) := dk_180 0 44 (dk_at dksX7_from_0 14 rfl rfl)
theorem dX7_from_17 : decode cX7_from 17 = .ok (.iload_n 1, 1) := dk_27 (dk_at dksX7_from_0 17 rfl rfl)
theorem dX7_from_18 : decode cX7_from 18 = .ok (.iaload, 1) := dk_46 (dk_at dksX7_from_0 18 rfl rfl)
theorem dX7_from_19 : decode cX7_from 19 = .ok (.aload_n 0, 1) := dk_42 (dk_at dksX7_from_0 19 rfl rfl)
theorem dX7_from_20 : decode cX7_from 20 = .ok (.getfield 49, 3) := dk_180 0 49 (dk_at dksX7_from_0 20 rfl rfl)
theorem dX7_from_23 : decode cX7_from 23 = .ok (.iload_n 2, 1) := dk_28 (dk_at dksX7_from_0 23 rfl rfl)
theorem dX7_from_24 : decode cX7_from 24 = .ok (.iaload, 1) := dk_46 (dk_at dksX7_from_1 0 rfl rfl)
theorem dX7_from_25 : decode cX7_from 25 = .ok (.isub, 1) := dk_100 (dk_at dksX7_from_1 1 rfl rfl)
theorem dX7_from_26 : decode cX7_from 26 = .ok (.invokestatic 432, 3) := dk_184 1 176 (dk_at dksX7_from_1 2 rfl rfl)
theorem dX7_from_29 : decode cX7_from 29 = .ok (.iadd, 1) := dk_96 (dk_at dksX7_from_1 5 rfl rfl)
theorem dX7_from_30 : decode cX7_from 30 = .ok (.ireturn, 1) := dk_172 (dk_at dksX7_from_1 6 rfl rfl)
abbrev cX7_carried : ByteArray := prog_21_method_79_code
def yX7_carried : MethodName := ⟨RX7, "carried", "(I)I"⟩
def dkwX7_carried_1 : List UInt8 := [27, 46, 167, 0, 8, 42, 4, 182, 1, 51, 172]
abbrev dktX7_carried_1 : List UInt8 := dkwX7_carried_1 ++ []
def dkwX7_carried_0 : List UInt8 := [42, 3, 181, 0, 159, 42, 27, 182, 1, 136, 153, 0, 19, 42, 180, 1, 80, 153, 0, 12, 42, 180, 0, 108]
abbrev dktX7_carried_0 : List UInt8 := dkwX7_carried_0 ++ dktX7_carried_1
theorem dksX7_carried_0 : cX7_carried.data.toList.drop 0 = dktX7_carried_0 := by decide +kernel
theorem dksX7_carried_1 : cX7_carried.data.toList.drop 24 = dktX7_carried_1 := dk_seg dksX7_carried_0 24 rfl rfl
theorem dX7_carried_0 : decode cX7_carried 0 = .ok (.aload_n 0, 1) := dk_42 (dk_at dksX7_carried_0 0 rfl rfl)
theorem dX7_carried_1 : decode cX7_carried 1 = .ok (.iconst 0, 1) := dk_3 (dk_at dksX7_carried_0 1 rfl rfl)
theorem dX7_carried_2 : decode cX7_carried 2 = .ok (.putfield 159, 3) := dk_181 0 159 (dk_at dksX7_carried_0 2 rfl rfl)
theorem dX7_carried_5 : decode cX7_carried 5 = .ok (.aload_n 0, 1) := dk_42 (dk_at dksX7_carried_0 5 rfl rfl)
theorem dX7_carried_6 : decode cX7_carried 6 = .ok (.iload_n 1, 1) := dk_27 (dk_at dksX7_carried_0 6 rfl rfl)
theorem dX7_carried_7 : decode cX7_carried 7 = .ok (.invokevirtual 392, 3) := dk_182 1 136 (dk_at dksX7_carried_0 7 rfl rfl)
theorem dX7_carried_10 : decode cX7_carried 10 = .ok (.ifCond .eq 19, 3) := dk_153 0 19 (dk_at dksX7_carried_0 10 rfl rfl)
theorem dX7_carried_13 : decode cX7_carried 13 = .ok (.aload_n 0, 1) := dk_42 (dk_at dksX7_carried_0 13 rfl rfl)
theorem dX7_carried_14 : decode cX7_carried 14 = .ok (.getfield 336, 3) := dk_180 1 80 (dk_at dksX7_carried_0 14 rfl rfl)
theorem dX7_carried_17 : decode cX7_carried 17 = .ok (.ifCond .eq 12, 3) := dk_153 0 12 (dk_at dksX7_carried_0 17 rfl rfl)
theorem dX7_carried_20 : decode cX7_carried 20 = .ok (.aload_n 0, 1) := dk_42 (dk_at dksX7_carried_0 20 rfl rfl)
theorem dX7_carried_21 : decode cX7_carried 21 = .ok (.getfield 108, 3) := dk_180 0 108 (dk_at dksX7_carried_0 21 rfl rfl)
theorem dX7_carried_24 : decode cX7_carried 24 = .ok (.iload_n 1, 1) := dk_27 (dk_at dksX7_carried_1 0 rfl rfl)
theorem dX7_carried_25 : decode cX7_carried 25 = .ok (.iaload, 1) := dk_46 (dk_at dksX7_carried_1 1 rfl rfl)
theorem dX7_carried_26 : decode cX7_carried 26 = .ok (.goto 8, 3) := dk_167 0 8 (dk_at dksX7_carried_1 2 rfl rfl)
theorem dX7_carried_29 : decode cX7_carried 29 = .ok (.aload_n 0, 1) := dk_42 (dk_at dksX7_carried_1 5 rfl rfl)
theorem dX7_carried_30 : decode cX7_carried 30 = .ok (.iconst 1, 1) := dk_4 (dk_at dksX7_carried_1 6 rfl rfl)
theorem dX7_carried_31 : decode cX7_carried 31 = .ok (.invokevirtual 307, 3) := dk_182 1 51 (dk_at dksX7_carried_1 7 rfl rfl)
theorem dX7_carried_34 : decode cX7_carried 34 = .ok (.ireturn, 1) := dk_172 (dk_at dksX7_carried_1 10 rfl rfl)
abbrev cX7_familiar : ByteArray := prog_21_method_80_code
def yX7_familiar : MethodName := ⟨RX7, "familiar", "()I"⟩
def dkwX7_familiar_3 : List UInt8 := [167, 0, 4, 3, 128, 60, 132, 2, 1, 167, 255, 187, 27, 172]
abbrev dktX7_familiar_3 : List UInt8 := dkwX7_familiar_3 ++ []
def dkwX7_familiar_2 : List UInt8 := [153, 0, 7, 4, 167, 0, 4, 3, 62, 132, 4, 1, 167, 255, 222, 27, 29, 153, 0, 9, 4, 28, 120]
abbrev dktX7_familiar_2 : List UInt8 := dkwX7_familiar_2 ++ dktX7_familiar_3
def dkwX7_familiar_1 : List UInt8 := [21, 4, 42, 180, 0, 38, 3, 46, 162, 0, 29, 29, 153, 0, 17, 42, 28, 21, 4, 182, 1, 93]
abbrev dktX7_familiar_1 : List UInt8 := dkwX7_familiar_1 ++ dktX7_familiar_2
def dkwX7_familiar_0 : List UInt8 := [42, 3, 181, 0, 159, 3, 60, 3, 61, 28, 42, 180, 0, 38, 3, 46, 162, 0, 65, 4, 62, 3, 54, 4]
abbrev dktX7_familiar_0 : List UInt8 := dkwX7_familiar_0 ++ dktX7_familiar_1
theorem dksX7_familiar_0 : cX7_familiar.data.toList.drop 0 = dktX7_familiar_0 := by decide +kernel
theorem dksX7_familiar_1 : cX7_familiar.data.toList.drop 24 = dktX7_familiar_1 := dk_seg dksX7_familiar_0 24 rfl rfl
theorem dksX7_familiar_2 : cX7_familiar.data.toList.drop 46 = dktX7_familiar_2 := dk_seg dksX7_familiar_1 22 rfl rfl
theorem dksX7_familiar_3 : cX7_familiar.data.toList.drop 69 = dktX7_familiar_3 := dk_seg dksX7_familiar_2 23 rfl rfl
theorem dX7_familiar_0 : decode cX7_familiar 0 = .ok (.aload_n 0, 1) := dk_42 (dk_at dksX7_familiar_0 0 rfl rfl)
theorem dX7_familiar_1 : decode cX7_familiar 1 = .ok (.iconst 0, 1) := dk_3 (dk_at dksX7_familiar_0 1 rfl rfl)
theorem dX7_familiar_2 : decode cX7_familiar 2 = .ok (.putfield 159, 3) := dk_181 0 159 (dk_at dksX7_familiar_0 2 rfl rfl)
theorem dX7_familiar_5 : decode cX7_familiar 5 = .ok (.iconst 0, 1) := dk_3 (dk_at dksX7_familiar_0 5 rfl rfl)
theorem dX7_familiar_6 : decode cX7_familiar 6 = .ok (.istore_n 1, 1) := dk_60 (dk_at dksX7_familiar_0 6 rfl rfl)
theorem dX7_familiar_7 : decode cX7_familiar 7 = .ok (.iconst 0, 1) := dk_3 (dk_at dksX7_familiar_0 7 rfl rfl)
theorem dX7_familiar_8 : decode cX7_familiar 8 = .ok (.istore_n 2, 1) := dk_61 (dk_at dksX7_familiar_0 8 rfl rfl)
theorem dX7_familiar_9 : decode cX7_familiar 9 = .ok (.iload_n 2, 1) := dk_28 (dk_at dksX7_familiar_0 9 rfl rfl)
theorem dX7_familiar_10 : decode cX7_familiar 10 = .ok (.aload_n 0, 1) := dk_42 (dk_at dksX7_familiar_0 10 rfl rfl)
theorem dX7_familiar_11 : decode cX7_familiar 11 = .ok (.getfield 38, 3) := dk_180 0 38 (dk_at dksX7_familiar_0 11 rfl rfl)
theorem dX7_familiar_14 : decode cX7_familiar 14 = .ok (.iconst 0, 1) := dk_3 (dk_at dksX7_familiar_0 14 rfl rfl)
theorem dX7_familiar_15 : decode cX7_familiar 15 = .ok (.iaload, 1) := dk_46 (dk_at dksX7_familiar_0 15 rfl rfl)
theorem dX7_familiar_16 : decode cX7_familiar 16 = .ok (.if_icmp .ge 65, 3) := dk_162 0 65 (dk_at dksX7_familiar_0 16 rfl rfl)
theorem dX7_familiar_19 : decode cX7_familiar 19 = .ok (.iconst 1, 1) := dk_4 (dk_at dksX7_familiar_0 19 rfl rfl)
theorem dX7_familiar_20 : decode cX7_familiar 20 = .ok (.istore_n 3, 1) := dk_62 (dk_at dksX7_familiar_0 20 rfl rfl)
theorem dX7_familiar_21 : decode cX7_familiar 21 = .ok (.iconst 0, 1) := dk_3 (dk_at dksX7_familiar_0 21 rfl rfl)
theorem dX7_familiar_22 : decode cX7_familiar 22 = .ok (.istore 4, 2) := dk_54 4 (dk_at dksX7_familiar_0 22 rfl rfl)
theorem dX7_familiar_24 : decode cX7_familiar 24 = .ok (.iload 4, 2) := dk_21 4 (dk_at dksX7_familiar_1 0 rfl rfl)
theorem dX7_familiar_26 : decode cX7_familiar 26 = .ok (.aload_n 0, 1) := dk_42 (dk_at dksX7_familiar_1 2 rfl rfl)
theorem dX7_familiar_27 : decode cX7_familiar 27 = .ok (.getfield 38, 3) := dk_180 0 38 (dk_at dksX7_familiar_1 3 rfl rfl)
theorem dX7_familiar_30 : decode cX7_familiar 30 = .ok (.iconst 0, 1) := dk_3 (dk_at dksX7_familiar_1 6 rfl rfl)
theorem dX7_familiar_31 : decode cX7_familiar 31 = .ok (.iaload, 1) := dk_46 (dk_at dksX7_familiar_1 7 rfl rfl)
theorem dX7_familiar_32 : decode cX7_familiar 32 = .ok (.if_icmp .ge 29, 3) := dk_162 0 29 (dk_at dksX7_familiar_1 8 rfl rfl)
theorem dX7_familiar_35 : decode cX7_familiar 35 = .ok (.iload_n 3, 1) := dk_29 (dk_at dksX7_familiar_1 11 rfl rfl)
theorem dX7_familiar_36 : decode cX7_familiar 36 = .ok (.ifCond .eq 17, 3) := dk_153 0 17 (dk_at dksX7_familiar_1 12 rfl rfl)
theorem dX7_familiar_39 : decode cX7_familiar 39 = .ok (.aload_n 0, 1) := dk_42 (dk_at dksX7_familiar_1 15 rfl rfl)
theorem dX7_familiar_40 : decode cX7_familiar 40 = .ok (.iload_n 2, 1) := dk_28 (dk_at dksX7_familiar_1 16 rfl rfl)
theorem dX7_familiar_41 : decode cX7_familiar 41 = .ok (.iload 4, 2) := dk_21 4 (dk_at dksX7_familiar_1 17 rfl rfl)
theorem dX7_familiar_43 : decode cX7_familiar 43 = .ok (.invokevirtual 349, 3) := dk_182 1 93 (dk_at dksX7_familiar_1 19 rfl rfl)
theorem dX7_familiar_46 : decode cX7_familiar 46 = .ok (.ifCond .eq 7, 3) := dk_153 0 7 (dk_at dksX7_familiar_2 0 rfl rfl)
theorem dX7_familiar_49 : decode cX7_familiar 49 = .ok (.iconst 1, 1) := dk_4 (dk_at dksX7_familiar_2 3 rfl rfl)
theorem dX7_familiar_50 : decode cX7_familiar 50 = .ok (.goto 4, 3) := dk_167 0 4 (dk_at dksX7_familiar_2 4 rfl rfl)
theorem dX7_familiar_53 : decode cX7_familiar 53 = .ok (.iconst 0, 1) := dk_3 (dk_at dksX7_familiar_2 7 rfl rfl)
theorem dX7_familiar_54 : decode cX7_familiar 54 = .ok (.istore_n 3, 1) := dk_62 (dk_at dksX7_familiar_2 8 rfl rfl)
theorem dX7_familiar_55 : decode cX7_familiar 55 = .ok (.iinc 4 1, 3) := dk_132 4 1 (dk_at dksX7_familiar_2 9 rfl rfl)
theorem dX7_familiar_58 : decode cX7_familiar 58 = .ok (.goto (-34), 3) := dk_167 255 222 (dk_at dksX7_familiar_2 12 rfl rfl)
theorem dX7_familiar_61 : decode cX7_familiar 61 = .ok (.iload_n 1, 1) := dk_27 (dk_at dksX7_familiar_2 15 rfl rfl)
theorem dX7_familiar_62 : decode cX7_familiar 62 = .ok (.iload_n 3, 1) := dk_29 (dk_at dksX7_familiar_2 16 rfl rfl)
theorem dX7_familiar_63 : decode cX7_familiar 63 = .ok (.ifCond .eq 9, 3) := dk_153 0 9 (dk_at dksX7_familiar_2 17 rfl rfl)
theorem dX7_familiar_66 : decode cX7_familiar 66 = .ok (.iconst 1, 1) := dk_4 (dk_at dksX7_familiar_2 20 rfl rfl)
theorem dX7_familiar_67 : decode cX7_familiar 67 = .ok (.iload_n 2, 1) := dk_28 (dk_at dksX7_familiar_2 21 rfl rfl)
theorem dX7_familiar_68 : decode cX7_familiar 68 = .ok (.ishl, 1) := dk_120 (dk_at dksX7_familiar_2 22 rfl rfl)
theorem dX7_familiar_69 : decode cX7_familiar 69 = .ok (.goto 4, 3) := dk_167 0 4 (dk_at dksX7_familiar_3 0 rfl rfl)
theorem dX7_familiar_72 : decode cX7_familiar 72 = .ok (.iconst 0, 1) := dk_3 (dk_at dksX7_familiar_3 3 rfl rfl)
theorem dX7_familiar_73 : decode cX7_familiar 73 = .ok (.ior, 1) := dk_128 (dk_at dksX7_familiar_3 4 rfl rfl)
theorem dX7_familiar_74 : decode cX7_familiar 74 = .ok (.istore_n 1, 1) := dk_60 (dk_at dksX7_familiar_3 5 rfl rfl)
theorem dX7_familiar_75 : decode cX7_familiar 75 = .ok (.iinc 2 1, 3) := dk_132 2 1 (dk_at dksX7_familiar_3 6 rfl rfl)
theorem dX7_familiar_78 : decode cX7_familiar 78 = .ok (.goto (-69), 3) := dk_167 255 187 (dk_at dksX7_familiar_3 9 rfl rfl)
theorem dX7_familiar_81 : decode cX7_familiar 81 = .ok (.iload_n 1, 1) := dk_27 (dk_at dksX7_familiar_3 12 rfl rfl)
theorem dX7_familiar_82 : decode cX7_familiar 82 = .ok (.ireturn, 1) := dk_172 (dk_at dksX7_familiar_3 13 rfl rfl)
abbrev cX7_ring : ByteArray := prog_21_method_82_code
def yX7_ring : MethodName := ⟨RX7, "ring", "()I"⟩
def dkwX7_ring_2 : List UInt8 := [167, 255, 220, 27, 172]
abbrev dktX7_ring_2 : List UInt8 := dkwX7_ring_2 ++ []
def dkwX7_ring_1 : List UInt8 := [184, 1, 165, 27, 184, 1, 165, 164, 0, 13, 42, 28, 182, 1, 197, 153, 0, 5, 28, 60, 132, 2, 1]
abbrev dktX7_ring_1 : List UInt8 := dkwX7_ring_1 ++ dktX7_ring_2
def dkwX7_ring_0 : List UInt8 := [42, 3, 181, 0, 159, 3, 60, 3, 61, 28, 4, 42, 180, 0, 38, 3, 46, 120, 162, 0, 30, 28]
abbrev dktX7_ring_0 : List UInt8 := dkwX7_ring_0 ++ dktX7_ring_1
theorem dksX7_ring_0 : cX7_ring.data.toList.drop 0 = dktX7_ring_0 := by decide +kernel
theorem dksX7_ring_1 : cX7_ring.data.toList.drop 22 = dktX7_ring_1 := dk_seg dksX7_ring_0 22 rfl rfl
theorem dksX7_ring_2 : cX7_ring.data.toList.drop 45 = dktX7_ring_2 := dk_seg dksX7_ring_1 23 rfl rfl
theorem dX7_ring_0 : decode cX7_ring 0 = .ok (.aload_n 0, 1) := dk_42 (dk_at dksX7_ring_0 0 rfl rfl)
theorem dX7_ring_1 : decode cX7_ring 1 = .ok (.iconst 0, 1) := dk_3 (dk_at dksX7_ring_0 1 rfl rfl)
theorem dX7_ring_2 : decode cX7_ring 2 = .ok (.putfield 159, 3) := dk_181 0 159 (dk_at dksX7_ring_0 2 rfl rfl)
theorem dX7_ring_5 : decode cX7_ring 5 = .ok (.iconst 0, 1) := dk_3 (dk_at dksX7_ring_0 5 rfl rfl)
theorem dX7_ring_6 : decode cX7_ring 6 = .ok (.istore_n 1, 1) := dk_60 (dk_at dksX7_ring_0 6 rfl rfl)
theorem dX7_ring_7 : decode cX7_ring 7 = .ok (.iconst 0, 1) := dk_3 (dk_at dksX7_ring_0 7 rfl rfl)
theorem dX7_ring_8 : decode cX7_ring 8 = .ok (.istore_n 2, 1) := dk_61 (dk_at dksX7_ring_0 8 rfl rfl)
theorem dX7_ring_9 : decode cX7_ring 9 = .ok (.iload_n 2, 1) := dk_28 (dk_at dksX7_ring_0 9 rfl rfl)
theorem dX7_ring_10 : decode cX7_ring 10 = .ok (.iconst 1, 1) := dk_4 (dk_at dksX7_ring_0 10 rfl rfl)
theorem dX7_ring_11 : decode cX7_ring 11 = .ok (.aload_n 0, 1) := dk_42 (dk_at dksX7_ring_0 11 rfl rfl)
theorem dX7_ring_12 : decode cX7_ring 12 = .ok (.getfield 38, 3) := dk_180 0 38 (dk_at dksX7_ring_0 12 rfl rfl)
theorem dX7_ring_15 : decode cX7_ring 15 = .ok (.iconst 0, 1) := dk_3 (dk_at dksX7_ring_0 15 rfl rfl)
theorem dX7_ring_16 : decode cX7_ring 16 = .ok (.iaload, 1) := dk_46 (dk_at dksX7_ring_0 16 rfl rfl)
theorem dX7_ring_17 : decode cX7_ring 17 = .ok (.ishl, 1) := dk_120 (dk_at dksX7_ring_0 17 rfl rfl)
theorem dX7_ring_18 : decode cX7_ring 18 = .ok (.if_icmp .ge 30, 3) := dk_162 0 30 (dk_at dksX7_ring_0 18 rfl rfl)
theorem dX7_ring_21 : decode cX7_ring 21 = .ok (.iload_n 2, 1) := dk_28 (dk_at dksX7_ring_0 21 rfl rfl)
theorem dX7_ring_22 : decode cX7_ring 22 = .ok (.invokestatic 421, 3) := dk_184 1 165 (dk_at dksX7_ring_1 0 rfl rfl)
theorem dX7_ring_25 : decode cX7_ring 25 = .ok (.iload_n 1, 1) := dk_27 (dk_at dksX7_ring_1 3 rfl rfl)
theorem dX7_ring_26 : decode cX7_ring 26 = .ok (.invokestatic 421, 3) := dk_184 1 165 (dk_at dksX7_ring_1 4 rfl rfl)
theorem dX7_ring_29 : decode cX7_ring 29 = .ok (.if_icmp .le 13, 3) := dk_164 0 13 (dk_at dksX7_ring_1 7 rfl rfl)
theorem dX7_ring_32 : decode cX7_ring 32 = .ok (.aload_n 0, 1) := dk_42 (dk_at dksX7_ring_1 10 rfl rfl)
theorem dX7_ring_33 : decode cX7_ring 33 = .ok (.iload_n 2, 1) := dk_28 (dk_at dksX7_ring_1 11 rfl rfl)
theorem dX7_ring_34 : decode cX7_ring 34 = .ok (.invokevirtual 453, 3) := dk_182 1 197 (dk_at dksX7_ring_1 12 rfl rfl)
theorem dX7_ring_37 : decode cX7_ring 37 = .ok (.ifCond .eq 5, 3) := dk_153 0 5 (dk_at dksX7_ring_1 15 rfl rfl)
theorem dX7_ring_40 : decode cX7_ring 40 = .ok (.iload_n 2, 1) := dk_28 (dk_at dksX7_ring_1 18 rfl rfl)
theorem dX7_ring_41 : decode cX7_ring 41 = .ok (.istore_n 1, 1) := dk_60 (dk_at dksX7_ring_1 19 rfl rfl)
theorem dX7_ring_42 : decode cX7_ring 42 = .ok (.iinc 2 1, 3) := dk_132 2 1 (dk_at dksX7_ring_1 20 rfl rfl)
theorem dX7_ring_45 : decode cX7_ring 45 = .ok (.goto (-36), 3) := dk_167 255 220 (dk_at dksX7_ring_2 0 rfl rfl)
theorem dX7_ring_48 : decode cX7_ring 48 = .ok (.iload_n 1, 1) := dk_27 (dk_at dksX7_ring_2 3 rfl rfl)
theorem dX7_ring_49 : decode cX7_ring 49 = .ok (.ireturn, 1) := dk_172 (dk_at dksX7_ring_2 4 rfl rfl)
abbrev cX7_areStrangers : ByteArray := prog_21_method_81_code
def yX7_areStrangers : MethodName := ⟨RX7, "areStrangers", "(I)Z"⟩
def dkwX7_areStrangers_2 : List UInt8 := [182, 1, 93, 153, 0, 5, 3, 172, 132, 3, 1, 167, 255, 211, 132, 2, 1, 167, 255, 193, 4, 172]
abbrev dktX7_areStrangers_2 : List UInt8 := dkwX7_areStrangers_2 ++ []
def dkwX7_areStrangers_1 : List UInt8 := [28, 29, 159, 0, 30, 27, 28, 184, 1, 22, 153, 0, 22, 27, 29, 184, 1, 22, 153, 0, 14, 42, 28, 29]
abbrev dktX7_areStrangers_1 : List UInt8 := dkwX7_areStrangers_1 ++ dktX7_areStrangers_2
def dkwX7_areStrangers_0 : List UInt8 := [3, 61, 28, 42, 180, 0, 38, 3, 46, 162, 0, 59, 3, 62, 29, 42, 180, 0, 38, 3, 46, 162, 0, 41]
abbrev dktX7_areStrangers_0 : List UInt8 := dkwX7_areStrangers_0 ++ dktX7_areStrangers_1
theorem dksX7_areStrangers_0 : cX7_areStrangers.data.toList.drop 0 = dktX7_areStrangers_0 := by decide +kernel
theorem dksX7_areStrangers_1 : cX7_areStrangers.data.toList.drop 24 = dktX7_areStrangers_1 := dk_seg dksX7_areStrangers_0 24 rfl rfl
theorem dksX7_areStrangers_2 : cX7_areStrangers.data.toList.drop 48 = dktX7_areStrangers_2 := dk_seg dksX7_areStrangers_1 24 rfl rfl
theorem dX7_areStrangers_0 : decode cX7_areStrangers 0 = .ok (.iconst 0, 1) := dk_3 (dk_at dksX7_areStrangers_0 0 rfl rfl)
theorem dX7_areStrangers_1 : decode cX7_areStrangers 1 = .ok (.istore_n 2, 1) := dk_61 (dk_at dksX7_areStrangers_0 1 rfl rfl)
theorem dX7_areStrangers_2 : decode cX7_areStrangers 2 = .ok (.iload_n 2, 1) := dk_28 (dk_at dksX7_areStrangers_0 2 rfl rfl)
theorem dX7_areStrangers_3 : decode cX7_areStrangers 3 = .ok (.aload_n 0, 1) := dk_42 (dk_at dksX7_areStrangers_0 3 rfl rfl)
theorem dX7_areStrangers_4 : decode cX7_areStrangers 4 = .ok (.getfield 38, 3) := dk_180 0 38 (dk_at dksX7_areStrangers_0 4 rfl rfl)
theorem dX7_areStrangers_7 : decode cX7_areStrangers 7 = .ok (.iconst 0, 1) := dk_3 (dk_at dksX7_areStrangers_0 7 rfl rfl)
theorem dX7_areStrangers_8 : decode cX7_areStrangers 8 = .ok (.iaload, 1) := dk_46 (dk_at dksX7_areStrangers_0 8 rfl rfl)
theorem dX7_areStrangers_9 : decode cX7_areStrangers 9 = .ok (.if_icmp .ge 59, 3) := dk_162 0 59 (dk_at dksX7_areStrangers_0 9 rfl rfl)
theorem dX7_areStrangers_12 : decode cX7_areStrangers 12 = .ok (.iconst 0, 1) := dk_3 (dk_at dksX7_areStrangers_0 12 rfl rfl)
theorem dX7_areStrangers_13 : decode cX7_areStrangers 13 = .ok (.istore_n 3, 1) := dk_62 (dk_at dksX7_areStrangers_0 13 rfl rfl)
theorem dX7_areStrangers_14 : decode cX7_areStrangers 14 = .ok (.iload_n 3, 1) := dk_29 (dk_at dksX7_areStrangers_0 14 rfl rfl)
theorem dX7_areStrangers_15 : decode cX7_areStrangers 15 = .ok (.aload_n 0, 1) := dk_42 (dk_at dksX7_areStrangers_0 15 rfl rfl)
theorem dX7_areStrangers_16 : decode cX7_areStrangers 16 = .ok (.getfield 38, 3) := dk_180 0 38 (dk_at dksX7_areStrangers_0 16 rfl rfl)
theorem dX7_areStrangers_19 : decode cX7_areStrangers 19 = .ok (.iconst 0, 1) := dk_3 (dk_at dksX7_areStrangers_0 19 rfl rfl)
theorem dX7_areStrangers_20 : decode cX7_areStrangers 20 = .ok (.iaload, 1) := dk_46 (dk_at dksX7_areStrangers_0 20 rfl rfl)
theorem dX7_areStrangers_21 : decode cX7_areStrangers 21 = .ok (.if_icmp .ge 41, 3) := dk_162 0 41 (dk_at dksX7_areStrangers_0 21 rfl rfl)
theorem dX7_areStrangers_24 : decode cX7_areStrangers 24 = .ok (.iload_n 2, 1) := dk_28 (dk_at dksX7_areStrangers_1 0 rfl rfl)
theorem dX7_areStrangers_25 : decode cX7_areStrangers 25 = .ok (.iload_n 3, 1) := dk_29 (dk_at dksX7_areStrangers_1 1 rfl rfl)
theorem dX7_areStrangers_26 : decode cX7_areStrangers 26 = .ok (.if_icmp .eq 30, 3) := dk_159 0 30 (dk_at dksX7_areStrangers_1 2 rfl rfl)
theorem dX7_areStrangers_29 : decode cX7_areStrangers 29 = .ok (.iload_n 1, 1) := dk_27 (dk_at dksX7_areStrangers_1 5 rfl rfl)
theorem dX7_areStrangers_30 : decode cX7_areStrangers 30 = .ok (.iload_n 2, 1) := dk_28 (dk_at dksX7_areStrangers_1 6 rfl rfl)
theorem dX7_areStrangers_31 : decode cX7_areStrangers 31 = .ok (.invokestatic 278, 3) := dk_184 1 22 (dk_at dksX7_areStrangers_1 7 rfl rfl)
theorem dX7_areStrangers_34 : decode cX7_areStrangers 34 = .ok (.ifCond .eq 22, 3) := dk_153 0 22 (dk_at dksX7_areStrangers_1 10 rfl rfl)
theorem dX7_areStrangers_37 : decode cX7_areStrangers 37 = .ok (.iload_n 1, 1) := dk_27 (dk_at dksX7_areStrangers_1 13 rfl rfl)
theorem dX7_areStrangers_38 : decode cX7_areStrangers 38 = .ok (.iload_n 3, 1) := dk_29 (dk_at dksX7_areStrangers_1 14 rfl rfl)
theorem dX7_areStrangers_39 : decode cX7_areStrangers 39 = .ok (.invokestatic 278, 3) := dk_184 1 22 (dk_at dksX7_areStrangers_1 15 rfl rfl)
theorem dX7_areStrangers_42 : decode cX7_areStrangers 42 = .ok (.ifCond .eq 14, 3) := dk_153 0 14 (dk_at dksX7_areStrangers_1 18 rfl rfl)
theorem dX7_areStrangers_45 : decode cX7_areStrangers 45 = .ok (.aload_n 0, 1) := dk_42 (dk_at dksX7_areStrangers_1 21 rfl rfl)
theorem dX7_areStrangers_46 : decode cX7_areStrangers 46 = .ok (.iload_n 2, 1) := dk_28 (dk_at dksX7_areStrangers_1 22 rfl rfl)
theorem dX7_areStrangers_47 : decode cX7_areStrangers 47 = .ok (.iload_n 3, 1) := dk_29 (dk_at dksX7_areStrangers_1 23 rfl rfl)
theorem dX7_areStrangers_48 : decode cX7_areStrangers 48 = .ok (.invokevirtual 349, 3) := dk_182 1 93 (dk_at dksX7_areStrangers_2 0 rfl rfl)
theorem dX7_areStrangers_51 : decode cX7_areStrangers 51 = .ok (.ifCond .eq 5, 3) := dk_153 0 5 (dk_at dksX7_areStrangers_2 3 rfl rfl)
theorem dX7_areStrangers_54 : decode cX7_areStrangers 54 = .ok (.iconst 0, 1) := dk_3 (dk_at dksX7_areStrangers_2 6 rfl rfl)
theorem dX7_areStrangers_55 : decode cX7_areStrangers 55 = .ok (.ireturn, 1) := dk_172 (dk_at dksX7_areStrangers_2 7 rfl rfl)
theorem dX7_areStrangers_56 : decode cX7_areStrangers 56 = .ok (.iinc 3 1, 3) := dk_132 3 1 (dk_at dksX7_areStrangers_2 8 rfl rfl)
theorem dX7_areStrangers_59 : decode cX7_areStrangers 59 = .ok (.goto (-45), 3) := dk_167 255 211 (dk_at dksX7_areStrangers_2 11 rfl rfl)
theorem dX7_areStrangers_62 : decode cX7_areStrangers 62 = .ok (.iinc 2 1, 3) := dk_132 2 1 (dk_at dksX7_areStrangers_2 14 rfl rfl)
theorem dX7_areStrangers_65 : decode cX7_areStrangers 65 = .ok (.goto (-63), 3) := dk_167 255 193 (dk_at dksX7_areStrangers_2 17 rfl rfl)
theorem dX7_areStrangers_68 : decode cX7_areStrangers 68 = .ok (.iconst 1, 1) := dk_4 (dk_at dksX7_areStrangers_2 20 rfl rfl)
theorem dX7_areStrangers_69 : decode cX7_areStrangers 69 = .ok (.ireturn, 1) := dk_172 (dk_at dksX7_areStrangers_2 21 rfl rfl)
abbrev cX7_safe : ByteArray := prog_21_method_84_code
def yX7_safe : MethodName := ⟨RX7, "safe", "()I"⟩
def dkwX7_safe_4 : List UInt8 := [167, 255, 186, 28, 172]
abbrev dktX7_safe_4 : List UInt8 := dkwX7_safe_4 ++ []
def dkwX7_safe_3 : List UInt8 := [3, 182, 1, 203, 2, 130, 126, 154, 0, 5, 29, 61, 42, 42, 180, 0, 114, 3, 182, 1, 173, 132, 3, 1]
abbrev dktX7_safe_3 : List UInt8 := dkwX7_safe_3 ++ dktX7_safe_4
def dkwX7_safe_2 : List UInt8 := [159, 0, 17, 29, 184, 1, 165, 28, 184, 1, 165, 163, 0, 6, 167, 0, 31, 42, 29, 182, 1, 168, 27, 42]
abbrev dktX7_safe_2 : List UInt8 := dkwX7_safe_2 ++ dktX7_safe_3
def dkwX7_safe_1 : List UInt8 := [29, 4, 42, 180, 0, 38, 3, 46, 120, 162, 0, 64, 29, 184, 1, 165, 5, 161, 0, 50, 28, 2]
abbrev dktX7_safe_1 : List UInt8 := dkwX7_safe_1 ++ dktX7_safe_2
def dkwX7_safe_0 : List UInt8 := [42, 3, 181, 0, 159, 42, 3, 182, 1, 203, 60, 2, 61, 42, 42, 180, 0, 114, 3, 182, 1, 151, 3, 62]
abbrev dktX7_safe_0 : List UInt8 := dkwX7_safe_0 ++ dktX7_safe_1
theorem dksX7_safe_0 : cX7_safe.data.toList.drop 0 = dktX7_safe_0 := by decide +kernel
theorem dksX7_safe_1 : cX7_safe.data.toList.drop 24 = dktX7_safe_1 := dk_seg dksX7_safe_0 24 rfl rfl
theorem dksX7_safe_2 : cX7_safe.data.toList.drop 46 = dktX7_safe_2 := dk_seg dksX7_safe_1 22 rfl rfl
theorem dksX7_safe_3 : cX7_safe.data.toList.drop 70 = dktX7_safe_3 := dk_seg dksX7_safe_2 24 rfl rfl
theorem dksX7_safe_4 : cX7_safe.data.toList.drop 94 = dktX7_safe_4 := dk_seg dksX7_safe_3 24 rfl rfl
theorem dX7_safe_0 : decode cX7_safe 0 = .ok (.aload_n 0, 1) := dk_42 (dk_at dksX7_safe_0 0 rfl rfl)
theorem dX7_safe_1 : decode cX7_safe 1 = .ok (.iconst 0, 1) := dk_3 (dk_at dksX7_safe_0 1 rfl rfl)
theorem dX7_safe_2 : decode cX7_safe 2 = .ok (.putfield 159, 3) := dk_181 0 159 (dk_at dksX7_safe_0 2 rfl rfl)
theorem dX7_safe_5 : decode cX7_safe 5 = .ok (.aload_n 0, 1) := dk_42 (dk_at dksX7_safe_0 5 rfl rfl)
theorem dX7_safe_6 : decode cX7_safe 6 = .ok (.iconst 0, 1) := dk_3 (dk_at dksX7_safe_0 6 rfl rfl)
theorem dX7_safe_7 : decode cX7_safe 7 = .ok (.invokevirtual 459, 3) := dk_182 1 203 (dk_at dksX7_safe_0 7 rfl rfl)
theorem dX7_safe_10 : decode cX7_safe 10 = .ok (.istore_n 1, 1) := dk_60 (dk_at dksX7_safe_0 10 rfl rfl)
theorem dX7_safe_11 : decode cX7_safe 11 = .ok (.iconst (-1), 1) := dk_2 (dk_at dksX7_safe_0 11 rfl rfl)
theorem dX7_safe_12 : decode cX7_safe 12 = .ok (.istore_n 2, 1) := dk_61 (dk_at dksX7_safe_0 12 rfl rfl)
theorem dX7_safe_13 : decode cX7_safe 13 = .ok (.aload_n 0, 1) := dk_42 (dk_at dksX7_safe_0 13 rfl rfl)
theorem dX7_safe_14 : decode cX7_safe 14 = .ok (.aload_n 0, 1) := dk_42 (dk_at dksX7_safe_0 14 rfl rfl)
theorem dX7_safe_15 : decode cX7_safe 15 = .ok (.getfield 114, 3) := dk_180 0 114 (dk_at dksX7_safe_0 15 rfl rfl)
theorem dX7_safe_18 : decode cX7_safe 18 = .ok (.iconst 0, 1) := dk_3 (dk_at dksX7_safe_0 18 rfl rfl)
theorem dX7_safe_19 : decode cX7_safe 19 = .ok (.invokevirtual 407, 3) := dk_182 1 151 (dk_at dksX7_safe_0 19 rfl rfl)
theorem dX7_safe_22 : decode cX7_safe 22 = .ok (.iconst 0, 1) := dk_3 (dk_at dksX7_safe_0 22 rfl rfl)
theorem dX7_safe_23 : decode cX7_safe 23 = .ok (.istore_n 3, 1) := dk_62 (dk_at dksX7_safe_0 23 rfl rfl)
theorem dX7_safe_24 : decode cX7_safe 24 = .ok (.iload_n 3, 1) := dk_29 (dk_at dksX7_safe_1 0 rfl rfl)
theorem dX7_safe_25 : decode cX7_safe 25 = .ok (.iconst 1, 1) := dk_4 (dk_at dksX7_safe_1 1 rfl rfl)
theorem dX7_safe_26 : decode cX7_safe 26 = .ok (.aload_n 0, 1) := dk_42 (dk_at dksX7_safe_1 2 rfl rfl)
theorem dX7_safe_27 : decode cX7_safe 27 = .ok (.getfield 38, 3) := dk_180 0 38 (dk_at dksX7_safe_1 3 rfl rfl)
theorem dX7_safe_30 : decode cX7_safe 30 = .ok (.iconst 0, 1) := dk_3 (dk_at dksX7_safe_1 6 rfl rfl)
theorem dX7_safe_31 : decode cX7_safe 31 = .ok (.iaload, 1) := dk_46 (dk_at dksX7_safe_1 7 rfl rfl)
theorem dX7_safe_32 : decode cX7_safe 32 = .ok (.ishl, 1) := dk_120 (dk_at dksX7_safe_1 8 rfl rfl)
theorem dX7_safe_33 : decode cX7_safe 33 = .ok (.if_icmp .ge 64, 3) := dk_162 0 64 (dk_at dksX7_safe_1 9 rfl rfl)
theorem dX7_safe_36 : decode cX7_safe 36 = .ok (.iload_n 3, 1) := dk_29 (dk_at dksX7_safe_1 12 rfl rfl)
theorem dX7_safe_37 : decode cX7_safe 37 = .ok (.invokestatic 421, 3) := dk_184 1 165 (dk_at dksX7_safe_1 13 rfl rfl)
theorem dX7_safe_40 : decode cX7_safe 40 = .ok (.iconst 2, 1) := dk_5 (dk_at dksX7_safe_1 16 rfl rfl)
theorem dX7_safe_41 : decode cX7_safe 41 = .ok (.if_icmp .lt 50, 3) := dk_161 0 50 (dk_at dksX7_safe_1 17 rfl rfl)
theorem dX7_safe_44 : decode cX7_safe 44 = .ok (.iload_n 2, 1) := dk_28 (dk_at dksX7_safe_1 20 rfl rfl)
theorem dX7_safe_45 : decode cX7_safe 45 = .ok (.iconst (-1), 1) := dk_2 (dk_at dksX7_safe_1 21 rfl rfl)
theorem dX7_safe_46 : decode cX7_safe 46 = .ok (.if_icmp .eq 17, 3) := dk_159 0 17 (dk_at dksX7_safe_2 0 rfl rfl)
theorem dX7_safe_49 : decode cX7_safe 49 = .ok (.iload_n 3, 1) := dk_29 (dk_at dksX7_safe_2 3 rfl rfl)
theorem dX7_safe_50 : decode cX7_safe 50 = .ok (.invokestatic 421, 3) := dk_184 1 165 (dk_at dksX7_safe_2 4 rfl rfl)
theorem dX7_safe_53 : decode cX7_safe 53 = .ok (.iload_n 2, 1) := dk_28 (dk_at dksX7_safe_2 7 rfl rfl)
theorem dX7_safe_54 : decode cX7_safe 54 = .ok (.invokestatic 421, 3) := dk_184 1 165 (dk_at dksX7_safe_2 8 rfl rfl)
theorem dX7_safe_57 : decode cX7_safe 57 = .ok (.if_icmp .gt 6, 3) := dk_163 0 6 (dk_at dksX7_safe_2 11 rfl rfl)
theorem dX7_safe_60 : decode cX7_safe 60 = .ok (.goto 31, 3) := dk_167 0 31 (dk_at dksX7_safe_2 14 rfl rfl)
theorem dX7_safe_63 : decode cX7_safe 63 = .ok (.aload_n 0, 1) := dk_42 (dk_at dksX7_safe_2 17 rfl rfl)
theorem dX7_safe_64 : decode cX7_safe 64 = .ok (.iload_n 3, 1) := dk_29 (dk_at dksX7_safe_2 18 rfl rfl)
theorem dX7_safe_65 : decode cX7_safe 65 = .ok (.invokevirtual 424, 3) := dk_182 1 168 (dk_at dksX7_safe_2 19 rfl rfl)
theorem dX7_safe_68 : decode cX7_safe 68 = .ok (.iload_n 1, 1) := dk_27 (dk_at dksX7_safe_2 22 rfl rfl)
theorem dX7_safe_69 : decode cX7_safe 69 = .ok (.aload_n 0, 1) := dk_42 (dk_at dksX7_safe_2 23 rfl rfl)
theorem dX7_safe_70 : decode cX7_safe 70 = .ok (.iconst 0, 1) := dk_3 (dk_at dksX7_safe_3 0 rfl rfl)
theorem dX7_safe_71 : decode cX7_safe 71 = .ok (.invokevirtual 459, 3) := dk_182 1 203 (dk_at dksX7_safe_3 1 rfl rfl)
theorem dX7_safe_74 : decode cX7_safe 74 = .ok (.iconst (-1), 1) := dk_2 (dk_at dksX7_safe_3 4 rfl rfl)
theorem dX7_safe_75 : decode cX7_safe 75 = .ok (.ixor, 1) := dk_130 (dk_at dksX7_safe_3 5 rfl rfl)
theorem dX7_safe_76 : decode cX7_safe 76 = .ok (.iand, 1) := dk_126 (dk_at dksX7_safe_3 6 rfl rfl)
theorem dX7_safe_77 : decode cX7_safe 77 = .ok (.ifCond .ne 5, 3) := dk_154 0 5 (dk_at dksX7_safe_3 7 rfl rfl)
theorem dX7_safe_80 : decode cX7_safe 80 = .ok (.iload_n 3, 1) := dk_29 (dk_at dksX7_safe_3 10 rfl rfl)
theorem dX7_safe_81 : decode cX7_safe 81 = .ok (.istore_n 2, 1) := dk_61 (dk_at dksX7_safe_3 11 rfl rfl)
theorem dX7_safe_82 : decode cX7_safe 82 = .ok (.aload_n 0, 1) := dk_42 (dk_at dksX7_safe_3 12 rfl rfl)
theorem dX7_safe_83 : decode cX7_safe 83 = .ok (.aload_n 0, 1) := dk_42 (dk_at dksX7_safe_3 13 rfl rfl)
theorem dX7_safe_84 : decode cX7_safe 84 = .ok (.getfield 114, 3) := dk_180 0 114 (dk_at dksX7_safe_3 14 rfl rfl)
theorem dX7_safe_87 : decode cX7_safe 87 = .ok (.iconst 0, 1) := dk_3 (dk_at dksX7_safe_3 17 rfl rfl)
theorem dX7_safe_88 : decode cX7_safe 88 = .ok (.invokevirtual 429, 3) := dk_182 1 173 (dk_at dksX7_safe_3 18 rfl rfl)
theorem dX7_safe_91 : decode cX7_safe 91 = .ok (.iinc 3 1, 3) := dk_132 3 1 (dk_at dksX7_safe_3 21 rfl rfl)
theorem dX7_safe_94 : decode cX7_safe 94 = .ok (.goto (-70), 3) := dk_167 255 186 (dk_at dksX7_safe_4 0 rfl rfl)
theorem dX7_safe_97 : decode cX7_safe 97 = .ok (.iload_n 2, 1) := dk_28 (dk_at dksX7_safe_4 3 rfl rfl)
theorem dX7_safe_98 : decode cX7_safe 98 = .ok (.ireturn, 1) := dk_172 (dk_at dksX7_safe_4 4 rfl rfl)
abbrev cX7_cuttable : ByteArray := prog_21_method_83_code
def yX7_cuttable : MethodName := ⟨RX7, "cuttable", "(Z)I"⟩
def dkwX7_cuttable_2 : List UInt8 := [28, 172]
abbrev dktX7_cuttable_2 : List UInt8 := dkwX7_cuttable_2 ++ []
def dkwX7_cuttable_1 : List UInt8 := [2, 160, 0, 17, 42, 29, 182, 1, 200, 153, 0, 9, 28, 4, 29, 120, 128, 61, 132, 3, 1, 167, 255, 215]
abbrev dktX7_cuttable_1 : List UInt8 := dkwX7_cuttable_1 ++ dktX7_cuttable_2
def dkwX7_cuttable_0 : List UInt8 := [3, 61, 3, 62, 29, 42, 180, 0, 38, 4, 46, 162, 0, 37, 27, 154, 0, 13, 42, 180, 0, 83, 29, 46]
abbrev dktX7_cuttable_0 : List UInt8 := dkwX7_cuttable_0 ++ dktX7_cuttable_1
theorem dksX7_cuttable_0 : cX7_cuttable.data.toList.drop 0 = dktX7_cuttable_0 := by decide +kernel
theorem dksX7_cuttable_1 : cX7_cuttable.data.toList.drop 24 = dktX7_cuttable_1 := dk_seg dksX7_cuttable_0 24 rfl rfl
theorem dksX7_cuttable_2 : cX7_cuttable.data.toList.drop 48 = dktX7_cuttable_2 := dk_seg dksX7_cuttable_1 24 rfl rfl
theorem dX7_cuttable_0 : decode cX7_cuttable 0 = .ok (.iconst 0, 1) := dk_3 (dk_at dksX7_cuttable_0 0 rfl rfl)
theorem dX7_cuttable_1 : decode cX7_cuttable 1 = .ok (.istore_n 2, 1) := dk_61 (dk_at dksX7_cuttable_0 1 rfl rfl)
theorem dX7_cuttable_2 : decode cX7_cuttable 2 = .ok (.iconst 0, 1) := dk_3 (dk_at dksX7_cuttable_0 2 rfl rfl)
theorem dX7_cuttable_3 : decode cX7_cuttable 3 = .ok (.istore_n 3, 1) := dk_62 (dk_at dksX7_cuttable_0 3 rfl rfl)
theorem dX7_cuttable_4 : decode cX7_cuttable 4 = .ok (.iload_n 3, 1) := dk_29 (dk_at dksX7_cuttable_0 4 rfl rfl)
theorem dX7_cuttable_5 : decode cX7_cuttable 5 = .ok (.aload_n 0, 1) := dk_42 (dk_at dksX7_cuttable_0 5 rfl rfl)
theorem dX7_cuttable_6 : decode cX7_cuttable 6 = .ok (.getfield 38, 3) := dk_180 0 38 (dk_at dksX7_cuttable_0 6 rfl rfl)
theorem dX7_cuttable_9 : decode cX7_cuttable 9 = .ok (.iconst 1, 1) := dk_4 (dk_at dksX7_cuttable_0 9 rfl rfl)
theorem dX7_cuttable_10 : decode cX7_cuttable 10 = .ok (.iaload, 1) := dk_46 (dk_at dksX7_cuttable_0 10 rfl rfl)
theorem dX7_cuttable_11 : decode cX7_cuttable 11 = .ok (.if_icmp .ge 37, 3) := dk_162 0 37 (dk_at dksX7_cuttable_0 11 rfl rfl)
theorem dX7_cuttable_14 : decode cX7_cuttable 14 = .ok (.iload_n 1, 1) := dk_27 (dk_at dksX7_cuttable_0 14 rfl rfl)
theorem dX7_cuttable_15 : decode cX7_cuttable 15 = .ok (.ifCond .ne 13, 3) := dk_154 0 13 (dk_at dksX7_cuttable_0 15 rfl rfl)
theorem dX7_cuttable_18 : decode cX7_cuttable 18 = .ok (.aload_n 0, 1) := dk_42 (dk_at dksX7_cuttable_0 18 rfl rfl)
theorem dX7_cuttable_19 : decode cX7_cuttable 19 = .ok (.getfield 83, 3) := dk_180 0 83 (dk_at dksX7_cuttable_0 19 rfl rfl)
theorem dX7_cuttable_22 : decode cX7_cuttable 22 = .ok (.iload_n 3, 1) := dk_29 (dk_at dksX7_cuttable_0 22 rfl rfl)
theorem dX7_cuttable_23 : decode cX7_cuttable 23 = .ok (.iaload, 1) := dk_46 (dk_at dksX7_cuttable_0 23 rfl rfl)
theorem dX7_cuttable_24 : decode cX7_cuttable 24 = .ok (.iconst (-1), 1) := dk_2 (dk_at dksX7_cuttable_1 0 rfl rfl)
theorem dX7_cuttable_25 : decode cX7_cuttable 25 = .ok (.if_icmp .ne 17, 3) := dk_160 0 17 (dk_at dksX7_cuttable_1 1 rfl rfl)
theorem dX7_cuttable_28 : decode cX7_cuttable 28 = .ok (.aload_n 0, 1) := dk_42 (dk_at dksX7_cuttable_1 4 rfl rfl)
theorem dX7_cuttable_29 : decode cX7_cuttable 29 = .ok (.iload_n 3, 1) := dk_29 (dk_at dksX7_cuttable_1 5 rfl rfl)
theorem dX7_cuttable_30 : decode cX7_cuttable 30 = .ok (.invokevirtual 456, 3) := dk_182 1 200 (dk_at dksX7_cuttable_1 6 rfl rfl)
theorem dX7_cuttable_33 : decode cX7_cuttable 33 = .ok (.ifCond .eq 9, 3) := dk_153 0 9 (dk_at dksX7_cuttable_1 9 rfl rfl)
theorem dX7_cuttable_36 : decode cX7_cuttable 36 = .ok (.iload_n 2, 1) := dk_28 (dk_at dksX7_cuttable_1 12 rfl rfl)
theorem dX7_cuttable_37 : decode cX7_cuttable 37 = .ok (.iconst 1, 1) := dk_4 (dk_at dksX7_cuttable_1 13 rfl rfl)
theorem dX7_cuttable_38 : decode cX7_cuttable 38 = .ok (.iload_n 3, 1) := dk_29 (dk_at dksX7_cuttable_1 14 rfl rfl)
theorem dX7_cuttable_39 : decode cX7_cuttable 39 = .ok (.ishl, 1) := dk_120 (dk_at dksX7_cuttable_1 15 rfl rfl)
theorem dX7_cuttable_40 : decode cX7_cuttable 40 = .ok (.ior, 1) := dk_128 (dk_at dksX7_cuttable_1 16 rfl rfl)
theorem dX7_cuttable_41 : decode cX7_cuttable 41 = .ok (.istore_n 2, 1) := dk_61 (dk_at dksX7_cuttable_1 17 rfl rfl)
theorem dX7_cuttable_42 : decode cX7_cuttable 42 = .ok (.iinc 3 1, 3) := dk_132 3 1 (dk_at dksX7_cuttable_1 18 rfl rfl)
theorem dX7_cuttable_45 : decode cX7_cuttable 45 = .ok (.goto (-41), 3) := dk_167 255 215 (dk_at dksX7_cuttable_1 21 rfl rfl)
theorem dX7_cuttable_48 : decode cX7_cuttable 48 = .ok (.iload_n 2, 1) := dk_28 (dk_at dksX7_cuttable_2 0 rfl rfl)
theorem dX7_cuttable_49 : decode cX7_cuttable 49 = .ok (.ireturn, 1) := dk_172 (dk_at dksX7_cuttable_2 1 rfl rfl)
abbrev cX7_cutters : ByteArray := prog_21_method_51_code
def yX7_cutters : MethodName := ⟨RX7, "cutters", "(I)I"⟩
def dkwX7_cutters_1 : List UInt8 := [4, 29, 120, 128, 61, 132, 3, 1, 167, 255, 228, 28, 172]
abbrev dktX7_cutters_1 : List UInt8 := dkwX7_cutters_1 ++ []
def dkwX7_cutters_0 : List UInt8 := [3, 61, 3, 62, 29, 42, 180, 0, 38, 3, 46, 162, 0, 24, 42, 29, 27, 182, 1, 108, 153, 0, 9, 28]
abbrev dktX7_cutters_0 : List UInt8 := dkwX7_cutters_0 ++ dktX7_cutters_1
theorem dksX7_cutters_0 : cX7_cutters.data.toList.drop 0 = dktX7_cutters_0 := by decide +kernel
theorem dksX7_cutters_1 : cX7_cutters.data.toList.drop 24 = dktX7_cutters_1 := dk_seg dksX7_cutters_0 24 rfl rfl
theorem dX7_cutters_0 : decode cX7_cutters 0 = .ok (.iconst 0, 1) := dk_3 (dk_at dksX7_cutters_0 0 rfl rfl)
theorem dX7_cutters_1 : decode cX7_cutters 1 = .ok (.istore_n 2, 1) := dk_61 (dk_at dksX7_cutters_0 1 rfl rfl)
theorem dX7_cutters_2 : decode cX7_cutters 2 = .ok (.iconst 0, 1) := dk_3 (dk_at dksX7_cutters_0 2 rfl rfl)
theorem dX7_cutters_3 : decode cX7_cutters 3 = .ok (.istore_n 3, 1) := dk_62 (dk_at dksX7_cutters_0 3 rfl rfl)
theorem dX7_cutters_4 : decode cX7_cutters 4 = .ok (.iload_n 3, 1) := dk_29 (dk_at dksX7_cutters_0 4 rfl rfl)
theorem dX7_cutters_5 : decode cX7_cutters 5 = .ok (.aload_n 0, 1) := dk_42 (dk_at dksX7_cutters_0 5 rfl rfl)
theorem dX7_cutters_6 : decode cX7_cutters 6 = .ok (.getfield 38, 3) := dk_180 0 38 (dk_at dksX7_cutters_0 6 rfl rfl)
theorem dX7_cutters_9 : decode cX7_cutters 9 = .ok (.iconst 0, 1) := dk_3 (dk_at dksX7_cutters_0 9 rfl rfl)
theorem dX7_cutters_10 : decode cX7_cutters 10 = .ok (.iaload, 1) := dk_46 (dk_at dksX7_cutters_0 10 rfl rfl)
theorem dX7_cutters_11 : decode cX7_cutters 11 = .ok (.if_icmp .ge 24, 3) := dk_162 0 24 (dk_at dksX7_cutters_0 11 rfl rfl)
theorem dX7_cutters_14 : decode cX7_cutters 14 = .ok (.aload_n 0, 1) := dk_42 (dk_at dksX7_cutters_0 14 rfl rfl)
theorem dX7_cutters_15 : decode cX7_cutters 15 = .ok (.iload_n 3, 1) := dk_29 (dk_at dksX7_cutters_0 15 rfl rfl)
theorem dX7_cutters_16 : decode cX7_cutters 16 = .ok (.iload_n 1, 1) := dk_27 (dk_at dksX7_cutters_0 16 rfl rfl)
theorem dX7_cutters_17 : decode cX7_cutters 17 = .ok (.invokevirtual 364, 3) := dk_182 1 108 (dk_at dksX7_cutters_0 17 rfl rfl)
theorem dX7_cutters_20 : decode cX7_cutters 20 = .ok (.ifCond .eq 9, 3) := dk_153 0 9 (dk_at dksX7_cutters_0 20 rfl rfl)
theorem dX7_cutters_23 : decode cX7_cutters 23 = .ok (.iload_n 2, 1) := dk_28 (dk_at dksX7_cutters_0 23 rfl rfl)
theorem dX7_cutters_24 : decode cX7_cutters 24 = .ok (.iconst 1, 1) := dk_4 (dk_at dksX7_cutters_1 0 rfl rfl)
theorem dX7_cutters_25 : decode cX7_cutters 25 = .ok (.iload_n 3, 1) := dk_29 (dk_at dksX7_cutters_1 1 rfl rfl)
theorem dX7_cutters_26 : decode cX7_cutters 26 = .ok (.ishl, 1) := dk_120 (dk_at dksX7_cutters_1 2 rfl rfl)
theorem dX7_cutters_27 : decode cX7_cutters 27 = .ok (.ior, 1) := dk_128 (dk_at dksX7_cutters_1 3 rfl rfl)
theorem dX7_cutters_28 : decode cX7_cutters 28 = .ok (.istore_n 2, 1) := dk_61 (dk_at dksX7_cutters_1 4 rfl rfl)
theorem dX7_cutters_29 : decode cX7_cutters 29 = .ok (.iinc 3 1, 3) := dk_132 3 1 (dk_at dksX7_cutters_1 5 rfl rfl)
theorem dX7_cutters_32 : decode cX7_cutters 32 = .ok (.goto (-28), 3) := dk_167 255 228 (dk_at dksX7_cutters_1 8 rfl rfl)
theorem dX7_cutters_35 : decode cX7_cutters 35 = .ok (.iload_n 2, 1) := dk_28 (dk_at dksX7_cutters_1 11 rfl rfl)
theorem dX7_cutters_36 : decode cX7_cutters 36 = .ok (.ireturn, 1) := dk_172 (dk_at dksX7_cutters_1 12 rfl rfl)
abbrev cX7_help : ByteArray := prog_21_method_86_code
def yX7_help : MethodName := ⟨RX7, "help", "()I"⟩
def dkwX7_help_3 : List UInt8 := [167, 0, 4, 4, 96, 60, 132, 2, 1, 167, 255, 209, 27, 172]
abbrev dktX7_help_3 : List UInt8 := dkwX7_help_3 ++ []
def dkwX7_help_2 : List UInt8 := [2, 159, 0, 6, 167, 0, 24, 42, 3, 181, 1, 207, 27, 42, 28, 182, 1, 210, 153, 0, 7, 3]
abbrev dktX7_help_2 : List UInt8 := dkwX7_help_2 ++ dktX7_help_3
def dkwX7_help_1 : List UInt8 := [132, 2, 1, 167, 255, 240, 3, 61, 28, 42, 180, 0, 38, 4, 46, 162, 0, 43, 42, 180, 0, 83, 28, 46]
abbrev dktX7_help_1 : List UInt8 := dkwX7_help_1 ++ dktX7_help_2
def dkwX7_help_0 : List UInt8 := [42, 3, 181, 0, 159, 3, 60, 3, 61, 28, 16, 8, 162, 0, 16, 42, 180, 0, 117, 28, 2, 79]
abbrev dktX7_help_0 : List UInt8 := dkwX7_help_0 ++ dktX7_help_1
theorem dksX7_help_0 : cX7_help.data.toList.drop 0 = dktX7_help_0 := by decide +kernel
theorem dksX7_help_1 : cX7_help.data.toList.drop 22 = dktX7_help_1 := dk_seg dksX7_help_0 22 rfl rfl
theorem dksX7_help_2 : cX7_help.data.toList.drop 46 = dktX7_help_2 := dk_seg dksX7_help_1 24 rfl rfl
theorem dksX7_help_3 : cX7_help.data.toList.drop 68 = dktX7_help_3 := dk_seg dksX7_help_2 22 rfl rfl
theorem dX7_help_0 : decode cX7_help 0 = .ok (.aload_n 0, 1) := dk_42 (dk_at dksX7_help_0 0 rfl rfl)
theorem dX7_help_1 : decode cX7_help 1 = .ok (.iconst 0, 1) := dk_3 (dk_at dksX7_help_0 1 rfl rfl)
theorem dX7_help_2 : decode cX7_help 2 = .ok (.putfield 159, 3) := dk_181 0 159 (dk_at dksX7_help_0 2 rfl rfl)
theorem dX7_help_5 : decode cX7_help 5 = .ok (.iconst 0, 1) := dk_3 (dk_at dksX7_help_0 5 rfl rfl)
theorem dX7_help_6 : decode cX7_help 6 = .ok (.istore_n 1, 1) := dk_60 (dk_at dksX7_help_0 6 rfl rfl)
theorem dX7_help_7 : decode cX7_help 7 = .ok (.iconst 0, 1) := dk_3 (dk_at dksX7_help_0 7 rfl rfl)
theorem dX7_help_8 : decode cX7_help 8 = .ok (.istore_n 2, 1) := dk_61 (dk_at dksX7_help_0 8 rfl rfl)
theorem dX7_help_9 : decode cX7_help 9 = .ok (.iload_n 2, 1) := dk_28 (dk_at dksX7_help_0 9 rfl rfl)
theorem dX7_help_10 : decode cX7_help 10 = .ok (.bipush 8, 2) := dk_16 8 (dk_at dksX7_help_0 10 rfl rfl)
theorem dX7_help_12 : decode cX7_help 12 = .ok (.if_icmp .ge 16, 3) := dk_162 0 16 (dk_at dksX7_help_0 12 rfl rfl)
theorem dX7_help_15 : decode cX7_help 15 = .ok (.aload_n 0, 1) := dk_42 (dk_at dksX7_help_0 15 rfl rfl)
theorem dX7_help_16 : decode cX7_help 16 = .ok (.getfield 117, 3) := dk_180 0 117 (dk_at dksX7_help_0 16 rfl rfl)
theorem dX7_help_19 : decode cX7_help 19 = .ok (.iload_n 2, 1) := dk_28 (dk_at dksX7_help_0 19 rfl rfl)
theorem dX7_help_20 : decode cX7_help 20 = .ok (.iconst (-1), 1) := dk_2 (dk_at dksX7_help_0 20 rfl rfl)
theorem dX7_help_21 : decode cX7_help 21 = .ok (.iastore, 1) := dk_79 (dk_at dksX7_help_0 21 rfl rfl)
theorem dX7_help_22 : decode cX7_help 22 = .ok (.iinc 2 1, 3) := dk_132 2 1 (dk_at dksX7_help_1 0 rfl rfl)
theorem dX7_help_25 : decode cX7_help 25 = .ok (.goto (-16), 3) := dk_167 255 240 (dk_at dksX7_help_1 3 rfl rfl)
theorem dX7_help_28 : decode cX7_help 28 = .ok (.iconst 0, 1) := dk_3 (dk_at dksX7_help_1 6 rfl rfl)
theorem dX7_help_29 : decode cX7_help 29 = .ok (.istore_n 2, 1) := dk_61 (dk_at dksX7_help_1 7 rfl rfl)
theorem dX7_help_30 : decode cX7_help 30 = .ok (.iload_n 2, 1) := dk_28 (dk_at dksX7_help_1 8 rfl rfl)
theorem dX7_help_31 : decode cX7_help 31 = .ok (.aload_n 0, 1) := dk_42 (dk_at dksX7_help_1 9 rfl rfl)
theorem dX7_help_32 : decode cX7_help 32 = .ok (.getfield 38, 3) := dk_180 0 38 (dk_at dksX7_help_1 10 rfl rfl)
theorem dX7_help_35 : decode cX7_help 35 = .ok (.iconst 1, 1) := dk_4 (dk_at dksX7_help_1 13 rfl rfl)
theorem dX7_help_36 : decode cX7_help 36 = .ok (.iaload, 1) := dk_46 (dk_at dksX7_help_1 14 rfl rfl)
theorem dX7_help_37 : decode cX7_help 37 = .ok (.if_icmp .ge 43, 3) := dk_162 0 43 (dk_at dksX7_help_1 15 rfl rfl)
theorem dX7_help_40 : decode cX7_help 40 = .ok (.aload_n 0, 1) := dk_42 (dk_at dksX7_help_1 18 rfl rfl)
theorem dX7_help_41 : decode cX7_help 41 = .ok (.getfield 83, 3) := dk_180 0 83 (dk_at dksX7_help_1 19 rfl rfl)
theorem dX7_help_44 : decode cX7_help 44 = .ok (.iload_n 2, 1) := dk_28 (dk_at dksX7_help_1 22 rfl rfl)
theorem dX7_help_45 : decode cX7_help 45 = .ok (.iaload, 1) := dk_46 (dk_at dksX7_help_1 23 rfl rfl)
theorem dX7_help_46 : decode cX7_help 46 = .ok (.iconst (-1), 1) := dk_2 (dk_at dksX7_help_2 0 rfl rfl)
theorem dX7_help_47 : decode cX7_help 47 = .ok (.if_icmp .eq 6, 3) := dk_159 0 6 (dk_at dksX7_help_2 1 rfl rfl)
theorem dX7_help_50 : decode cX7_help 50 = .ok (.goto 24, 3) := dk_167 0 24 (dk_at dksX7_help_2 4 rfl rfl)
theorem dX7_help_53 : decode cX7_help 53 = .ok (.aload_n 0, 1) := dk_42 (dk_at dksX7_help_2 7 rfl rfl)
theorem dX7_help_54 : decode cX7_help 54 = .ok (.iconst 0, 1) := dk_3 (dk_at dksX7_help_2 8 rfl rfl)
theorem dX7_help_55 : decode cX7_help 55 = .ok (.putfield 463, 3) := dk_181 1 207 (dk_at dksX7_help_2 9 rfl rfl)
theorem dX7_help_58 : decode cX7_help 58 = .ok (.iload_n 1, 1) := dk_27 (dk_at dksX7_help_2 12 rfl rfl)
theorem dX7_help_59 : decode cX7_help 59 = .ok (.aload_n 0, 1) := dk_42 (dk_at dksX7_help_2 13 rfl rfl)
theorem dX7_help_60 : decode cX7_help 60 = .ok (.iload_n 2, 1) := dk_28 (dk_at dksX7_help_2 14 rfl rfl)
theorem dX7_help_61 : decode cX7_help 61 = .ok (.invokevirtual 466, 3) := dk_182 1 210 (dk_at dksX7_help_2 15 rfl rfl)
theorem dX7_help_64 : decode cX7_help 64 = .ok (.ifCond .eq 7, 3) := dk_153 0 7 (dk_at dksX7_help_2 18 rfl rfl)
theorem dX7_help_67 : decode cX7_help 67 = .ok (.iconst 0, 1) := dk_3 (dk_at dksX7_help_2 21 rfl rfl)
theorem dX7_help_68 : decode cX7_help 68 = .ok (.goto 4, 3) := dk_167 0 4 (dk_at dksX7_help_3 0 rfl rfl)
theorem dX7_help_71 : decode cX7_help 71 = .ok (.iconst 1, 1) := dk_4 (dk_at dksX7_help_3 3 rfl rfl)
theorem dX7_help_72 : decode cX7_help 72 = .ok (.iadd, 1) := dk_96 (dk_at dksX7_help_3 4 rfl rfl)
theorem dX7_help_73 : decode cX7_help 73 = .ok (.istore_n 1, 1) := dk_60 (dk_at dksX7_help_3 5 rfl rfl)
theorem dX7_help_74 : decode cX7_help 74 = .ok (.iinc 2 1, 3) := dk_132 2 1 (dk_at dksX7_help_3 6 rfl rfl)
theorem dX7_help_77 : decode cX7_help 77 = .ok (.goto (-47), 3) := dk_167 255 209 (dk_at dksX7_help_3 9 rfl rfl)
theorem dX7_help_80 : decode cX7_help 80 = .ok (.iload_n 1, 1) := dk_27 (dk_at dksX7_help_3 12 rfl rfl)
theorem dX7_help_81 : decode cX7_help 81 = .ok (.ireturn, 1) := dk_172 (dk_at dksX7_help_3 13 rfl rfl)
abbrev cX7_isHelped : ByteArray := prog_21_method_85_code
def yX7_isHelped : MethodName := ⟨RX7, "isHelped", "(I)Z"⟩
def dkwX7_isHelped_3 : List UInt8 := [167, 0, 12, 42, 180, 0, 117, 28, 27, 79, 4, 172, 132, 2, 1, 167, 255, 173, 3, 172]
abbrev dktX7_isHelped_3 : List UInt8 := dkwX7_isHelped_3 ++ []
def dkwX7_isHelped_2 : List UInt8 := [180, 0, 117, 28, 46, 2, 159, 0, 19, 42, 42, 180, 0, 117, 28, 46, 182, 1, 210, 154, 0, 6]
abbrev dktX7_isHelped_2 : List UInt8 := dkwX7_isHelped_2 ++ dktX7_isHelped_3
def dkwX7_isHelped_1 : List UInt8 := [28, 27, 182, 1, 108, 154, 0, 6, 167, 0, 50, 42, 89, 180, 1, 207, 4, 28, 120, 128, 181, 1, 207, 42]
abbrev dktX7_isHelped_1 : List UInt8 := dkwX7_isHelped_1 ++ dktX7_isHelped_2
def dkwX7_isHelped_0 : List UInt8 := [3, 61, 28, 42, 180, 0, 38, 3, 46, 162, 0, 79, 42, 180, 1, 207, 28, 184, 1, 22, 154, 0, 62, 42]
abbrev dktX7_isHelped_0 : List UInt8 := dkwX7_isHelped_0 ++ dktX7_isHelped_1
theorem dksX7_isHelped_0 : cX7_isHelped.data.toList.drop 0 = dktX7_isHelped_0 := by decide +kernel
theorem dksX7_isHelped_1 : cX7_isHelped.data.toList.drop 24 = dktX7_isHelped_1 := dk_seg dksX7_isHelped_0 24 rfl rfl
theorem dksX7_isHelped_2 : cX7_isHelped.data.toList.drop 48 = dktX7_isHelped_2 := dk_seg dksX7_isHelped_1 24 rfl rfl
theorem dksX7_isHelped_3 : cX7_isHelped.data.toList.drop 70 = dktX7_isHelped_3 := dk_seg dksX7_isHelped_2 22 rfl rfl
theorem dX7_isHelped_0 : decode cX7_isHelped 0 = .ok (.iconst 0, 1) := dk_3 (dk_at dksX7_isHelped_0 0 rfl rfl)
theorem dX7_isHelped_1 : decode cX7_isHelped 1 = .ok (.istore_n 2, 1) := dk_61 (dk_at dksX7_isHelped_0 1 rfl rfl)
theorem dX7_isHelped_2 : decode cX7_isHelped 2 = .ok (.iload_n 2, 1) := dk_28 (dk_at dksX7_isHelped_0 2 rfl rfl)
theorem dX7_isHelped_3 : decode cX7_isHelped 3 = .ok (.aload_n 0, 1) := dk_42 (dk_at dksX7_isHelped_0 3 rfl rfl)
theorem dX7_isHelped_4 : decode cX7_isHelped 4 = .ok (.getfield 38, 3) := dk_180 0 38 (dk_at dksX7_isHelped_0 4 rfl rfl)
theorem dX7_isHelped_7 : decode cX7_isHelped 7 = .ok (.iconst 0, 1) := dk_3 (dk_at dksX7_isHelped_0 7 rfl rfl)
theorem dX7_isHelped_8 : decode cX7_isHelped 8 = .ok (.iaload, 1) := dk_46 (dk_at dksX7_isHelped_0 8 rfl rfl)
theorem dX7_isHelped_9 : decode cX7_isHelped 9 = .ok (.if_icmp .ge 79, 3) := dk_162 0 79 (dk_at dksX7_isHelped_0 9 rfl rfl)
theorem dX7_isHelped_12 : decode cX7_isHelped 12 = .ok (.aload_n 0, 1) := dk_42 (dk_at dksX7_isHelped_0 12 rfl rfl)
theorem dX7_isHelped_13 : decode cX7_isHelped 13 = .ok (.getfield 463, 3) := dk_180 1 207 (dk_at dksX7_isHelped_0 13 rfl rfl)
theorem dX7_isHelped_16 : decode cX7_isHelped 16 = .ok (.iload_n 2, 1) := dk_28 (dk_at dksX7_isHelped_0 16 rfl rfl)
theorem dX7_isHelped_17 : decode cX7_isHelped 17 = .ok (.invokestatic 278, 3) := dk_184 1 22 (dk_at dksX7_isHelped_0 17 rfl rfl)
theorem dX7_isHelped_20 : decode cX7_isHelped 20 = .ok (.ifCond .ne 62, 3) := dk_154 0 62 (dk_at dksX7_isHelped_0 20 rfl rfl)
theorem dX7_isHelped_23 : decode cX7_isHelped 23 = .ok (.aload_n 0, 1) := dk_42 (dk_at dksX7_isHelped_0 23 rfl rfl)
theorem dX7_isHelped_24 : decode cX7_isHelped 24 = .ok (.iload_n 2, 1) := dk_28 (dk_at dksX7_isHelped_1 0 rfl rfl)
theorem dX7_isHelped_25 : decode cX7_isHelped 25 = .ok (.iload_n 1, 1) := dk_27 (dk_at dksX7_isHelped_1 1 rfl rfl)
theorem dX7_isHelped_26 : decode cX7_isHelped 26 = .ok (.invokevirtual 364, 3) := dk_182 1 108 (dk_at dksX7_isHelped_1 2 rfl rfl)
theorem dX7_isHelped_29 : decode cX7_isHelped 29 = .ok (.ifCond .ne 6, 3) := dk_154 0 6 (dk_at dksX7_isHelped_1 5 rfl rfl)
theorem dX7_isHelped_32 : decode cX7_isHelped 32 = .ok (.goto 50, 3) := dk_167 0 50 (dk_at dksX7_isHelped_1 8 rfl rfl)
theorem dX7_isHelped_35 : decode cX7_isHelped 35 = .ok (.aload_n 0, 1) := dk_42 (dk_at dksX7_isHelped_1 11 rfl rfl)
theorem dX7_isHelped_36 : decode cX7_isHelped 36 = .ok (.dup, 1) := dk_89 (dk_at dksX7_isHelped_1 12 rfl rfl)
theorem dX7_isHelped_37 : decode cX7_isHelped 37 = .ok (.getfield 463, 3) := dk_180 1 207 (dk_at dksX7_isHelped_1 13 rfl rfl)
theorem dX7_isHelped_40 : decode cX7_isHelped 40 = .ok (.iconst 1, 1) := dk_4 (dk_at dksX7_isHelped_1 16 rfl rfl)
theorem dX7_isHelped_41 : decode cX7_isHelped 41 = .ok (.iload_n 2, 1) := dk_28 (dk_at dksX7_isHelped_1 17 rfl rfl)
theorem dX7_isHelped_42 : decode cX7_isHelped 42 = .ok (.ishl, 1) := dk_120 (dk_at dksX7_isHelped_1 18 rfl rfl)
theorem dX7_isHelped_43 : decode cX7_isHelped 43 = .ok (.ior, 1) := dk_128 (dk_at dksX7_isHelped_1 19 rfl rfl)
theorem dX7_isHelped_44 : decode cX7_isHelped 44 = .ok (.putfield 463, 3) := dk_181 1 207 (dk_at dksX7_isHelped_1 20 rfl rfl)
theorem dX7_isHelped_47 : decode cX7_isHelped 47 = .ok (.aload_n 0, 1) := dk_42 (dk_at dksX7_isHelped_1 23 rfl rfl)
theorem dX7_isHelped_48 : decode cX7_isHelped 48 = .ok (.getfield 117, 3) := dk_180 0 117 (dk_at dksX7_isHelped_2 0 rfl rfl)
theorem dX7_isHelped_51 : decode cX7_isHelped 51 = .ok (.iload_n 2, 1) := dk_28 (dk_at dksX7_isHelped_2 3 rfl rfl)
theorem dX7_isHelped_52 : decode cX7_isHelped 52 = .ok (.iaload, 1) := dk_46 (dk_at dksX7_isHelped_2 4 rfl rfl)
theorem dX7_isHelped_53 : decode cX7_isHelped 53 = .ok (.iconst (-1), 1) := dk_2 (dk_at dksX7_isHelped_2 5 rfl rfl)
theorem dX7_isHelped_54 : decode cX7_isHelped 54 = .ok (.if_icmp .eq 19, 3) := dk_159 0 19 (dk_at dksX7_isHelped_2 6 rfl rfl)
theorem dX7_isHelped_57 : decode cX7_isHelped 57 = .ok (.aload_n 0, 1) := dk_42 (dk_at dksX7_isHelped_2 9 rfl rfl)
theorem dX7_isHelped_58 : decode cX7_isHelped 58 = .ok (.aload_n 0, 1) := dk_42 (dk_at dksX7_isHelped_2 10 rfl rfl)
theorem dX7_isHelped_59 : decode cX7_isHelped 59 = .ok (.getfield 117, 3) := dk_180 0 117 (dk_at dksX7_isHelped_2 11 rfl rfl)
theorem dX7_isHelped_62 : decode cX7_isHelped 62 = .ok (.iload_n 2, 1) := dk_28 (dk_at dksX7_isHelped_2 14 rfl rfl)
theorem dX7_isHelped_63 : decode cX7_isHelped 63 = .ok (.iaload, 1) := dk_46 (dk_at dksX7_isHelped_2 15 rfl rfl)
theorem dX7_isHelped_64 : decode cX7_isHelped 64 = .ok (.invokevirtual 466, 3) := dk_182 1 210 (dk_at dksX7_isHelped_2 16 rfl rfl)
theorem dX7_isHelped_67 : decode cX7_isHelped 67 = .ok (.ifCond .ne 6, 3) := dk_154 0 6 (dk_at dksX7_isHelped_2 19 rfl rfl)
theorem dX7_isHelped_70 : decode cX7_isHelped 70 = .ok (.goto 12, 3) := dk_167 0 12 (dk_at dksX7_isHelped_3 0 rfl rfl)
theorem dX7_isHelped_73 : decode cX7_isHelped 73 = .ok (.aload_n 0, 1) := dk_42 (dk_at dksX7_isHelped_3 3 rfl rfl)
theorem dX7_isHelped_74 : decode cX7_isHelped 74 = .ok (.getfield 117, 3) := dk_180 0 117 (dk_at dksX7_isHelped_3 4 rfl rfl)
theorem dX7_isHelped_77 : decode cX7_isHelped 77 = .ok (.iload_n 2, 1) := dk_28 (dk_at dksX7_isHelped_3 7 rfl rfl)
theorem dX7_isHelped_78 : decode cX7_isHelped 78 = .ok (.iload_n 1, 1) := dk_27 (dk_at dksX7_isHelped_3 8 rfl rfl)
theorem dX7_isHelped_79 : decode cX7_isHelped 79 = .ok (.iastore, 1) := dk_79 (dk_at dksX7_isHelped_3 9 rfl rfl)
theorem dX7_isHelped_80 : decode cX7_isHelped 80 = .ok (.iconst 1, 1) := dk_4 (dk_at dksX7_isHelped_3 10 rfl rfl)
theorem dX7_isHelped_81 : decode cX7_isHelped 81 = .ok (.ireturn, 1) := dk_172 (dk_at dksX7_isHelped_3 11 rfl rfl)
theorem dX7_isHelped_82 : decode cX7_isHelped 82 = .ok (.iinc 2 1, 3) := dk_132 2 1 (dk_at dksX7_isHelped_3 12 rfl rfl)
theorem dX7_isHelped_85 : decode cX7_isHelped 85 = .ok (.goto (-83), 3) := dk_167 255 173 (dk_at dksX7_isHelped_3 15 rfl rfl)
theorem dX7_isHelped_88 : decode cX7_isHelped 88 = .ok (.iconst 0, 1) := dk_3 (dk_at dksX7_isHelped_3 18 rfl rfl)
theorem dX7_isHelped_89 : decode cX7_isHelped 89 = .ok (.ireturn, 1) := dk_172 (dk_at dksX7_isHelped_3 19 rfl rfl)
abbrev cX7_doors : ByteArray := prog_21_method_88_code
def yX7_doors : MethodName := ⟨RX7, "doors", "()I"⟩
def dkwX7_doors_5 : List UInt8 := [172]
abbrev dktX7_doors_5 : List UInt8 := dkwX7_doors_5 ++ []
def dkwX7_doors_4 : List UInt8 := [167, 0, 4, 3, 62, 132, 4, 1, 167, 255, 197, 29, 153, 0, 5, 28, 60, 132, 2, 1, 167, 255, 153, 27]
abbrev dktX7_doors_4 : List UInt8 := dkwX7_doors_4 ++ dktX7_doors_5
def dkwX7_doors_3 : List UInt8 := [21, 4, 182, 1, 200, 153, 0, 18, 42, 21, 4, 182, 1, 200, 42, 28, 182, 1, 213, 126, 153, 0, 7, 4]
abbrev dktX7_doors_3 : List UInt8 := dkwX7_doors_3 ++ dktX7_doors_4
def dkwX7_doors_2 : List UInt8 := [180, 0, 38, 4, 46, 162, 0, 54, 29, 153, 0, 50, 42, 180, 0, 83, 21, 4, 46, 2, 160, 0, 27, 42]
abbrev dktX7_doors_2 : List UInt8 := dkwX7_doors_2 ++ dktX7_doors_3
def dkwX7_doors_1 : List UInt8 := [184, 1, 165, 27, 184, 1, 165, 162, 0, 7, 4, 167, 0, 4, 3, 62, 3, 54, 4, 21, 4, 42]
abbrev dktX7_doors_1 : List UInt8 := dkwX7_doors_1 ++ dktX7_doors_2
def dkwX7_doors_0 : List UInt8 := [42, 3, 181, 0, 159, 2, 60, 3, 61, 28, 17, 4, 0, 162, 0, 102, 27, 2, 159, 0, 14, 28]
abbrev dktX7_doors_0 : List UInt8 := dkwX7_doors_0 ++ dktX7_doors_1
theorem dksX7_doors_0 : cX7_doors.data.toList.drop 0 = dktX7_doors_0 := by decide +kernel
theorem dksX7_doors_1 : cX7_doors.data.toList.drop 22 = dktX7_doors_1 := dk_seg dksX7_doors_0 22 rfl rfl
theorem dksX7_doors_2 : cX7_doors.data.toList.drop 44 = dktX7_doors_2 := dk_seg dksX7_doors_1 22 rfl rfl
theorem dksX7_doors_3 : cX7_doors.data.toList.drop 68 = dktX7_doors_3 := dk_seg dksX7_doors_2 24 rfl rfl
theorem dksX7_doors_4 : cX7_doors.data.toList.drop 92 = dktX7_doors_4 := dk_seg dksX7_doors_3 24 rfl rfl
theorem dksX7_doors_5 : cX7_doors.data.toList.drop 116 = dktX7_doors_5 := dk_seg dksX7_doors_4 24 rfl rfl
theorem dX7_doors_0 : decode cX7_doors 0 = .ok (.aload_n 0, 1) := dk_42 (dk_at dksX7_doors_0 0 rfl rfl)
theorem dX7_doors_1 : decode cX7_doors 1 = .ok (.iconst 0, 1) := dk_3 (dk_at dksX7_doors_0 1 rfl rfl)
theorem dX7_doors_2 : decode cX7_doors 2 = .ok (.putfield 159, 3) := dk_181 0 159 (dk_at dksX7_doors_0 2 rfl rfl)
theorem dX7_doors_5 : decode cX7_doors 5 = .ok (.iconst (-1), 1) := dk_2 (dk_at dksX7_doors_0 5 rfl rfl)
theorem dX7_doors_6 : decode cX7_doors 6 = .ok (.istore_n 1, 1) := dk_60 (dk_at dksX7_doors_0 6 rfl rfl)
theorem dX7_doors_7 : decode cX7_doors 7 = .ok (.iconst 0, 1) := dk_3 (dk_at dksX7_doors_0 7 rfl rfl)
theorem dX7_doors_8 : decode cX7_doors 8 = .ok (.istore_n 2, 1) := dk_61 (dk_at dksX7_doors_0 8 rfl rfl)
theorem dX7_doors_9 : decode cX7_doors 9 = .ok (.iload_n 2, 1) := dk_28 (dk_at dksX7_doors_0 9 rfl rfl)
theorem dX7_doors_10 : decode cX7_doors 10 = .ok (.sipush 1024, 3) := dk_17 4 0 (dk_at dksX7_doors_0 10 rfl rfl)
theorem dX7_doors_13 : decode cX7_doors 13 = .ok (.if_icmp .ge 102, 3) := dk_162 0 102 (dk_at dksX7_doors_0 13 rfl rfl)
theorem dX7_doors_16 : decode cX7_doors 16 = .ok (.iload_n 1, 1) := dk_27 (dk_at dksX7_doors_0 16 rfl rfl)
theorem dX7_doors_17 : decode cX7_doors 17 = .ok (.iconst (-1), 1) := dk_2 (dk_at dksX7_doors_0 17 rfl rfl)
theorem dX7_doors_18 : decode cX7_doors 18 = .ok (.if_icmp .eq 14, 3) := dk_159 0 14 (dk_at dksX7_doors_0 18 rfl rfl)
theorem dX7_doors_21 : decode cX7_doors 21 = .ok (.iload_n 2, 1) := dk_28 (dk_at dksX7_doors_0 21 rfl rfl)
theorem dX7_doors_22 : decode cX7_doors 22 = .ok (.invokestatic 421, 3) := dk_184 1 165 (dk_at dksX7_doors_1 0 rfl rfl)
theorem dX7_doors_25 : decode cX7_doors 25 = .ok (.iload_n 1, 1) := dk_27 (dk_at dksX7_doors_1 3 rfl rfl)
theorem dX7_doors_26 : decode cX7_doors 26 = .ok (.invokestatic 421, 3) := dk_184 1 165 (dk_at dksX7_doors_1 4 rfl rfl)
theorem dX7_doors_29 : decode cX7_doors 29 = .ok (.if_icmp .ge 7, 3) := dk_162 0 7 (dk_at dksX7_doors_1 7 rfl rfl)
theorem dX7_doors_32 : decode cX7_doors 32 = .ok (.iconst 1, 1) := dk_4 (dk_at dksX7_doors_1 10 rfl rfl)
theorem dX7_doors_33 : decode cX7_doors 33 = .ok (.goto 4, 3) := dk_167 0 4 (dk_at dksX7_doors_1 11 rfl rfl)
theorem dX7_doors_36 : decode cX7_doors 36 = .ok (.iconst 0, 1) := dk_3 (dk_at dksX7_doors_1 14 rfl rfl)
theorem dX7_doors_37 : decode cX7_doors 37 = .ok (.istore_n 3, 1) := dk_62 (dk_at dksX7_doors_1 15 rfl rfl)
theorem dX7_doors_38 : decode cX7_doors 38 = .ok (.iconst 0, 1) := dk_3 (dk_at dksX7_doors_1 16 rfl rfl)
theorem dX7_doors_39 : decode cX7_doors 39 = .ok (.istore 4, 2) := dk_54 4 (dk_at dksX7_doors_1 17 rfl rfl)
theorem dX7_doors_41 : decode cX7_doors 41 = .ok (.iload 4, 2) := dk_21 4 (dk_at dksX7_doors_1 19 rfl rfl)
theorem dX7_doors_43 : decode cX7_doors 43 = .ok (.aload_n 0, 1) := dk_42 (dk_at dksX7_doors_1 21 rfl rfl)
theorem dX7_doors_44 : decode cX7_doors 44 = .ok (.getfield 38, 3) := dk_180 0 38 (dk_at dksX7_doors_2 0 rfl rfl)
theorem dX7_doors_47 : decode cX7_doors 47 = .ok (.iconst 1, 1) := dk_4 (dk_at dksX7_doors_2 3 rfl rfl)
theorem dX7_doors_48 : decode cX7_doors 48 = .ok (.iaload, 1) := dk_46 (dk_at dksX7_doors_2 4 rfl rfl)
theorem dX7_doors_49 : decode cX7_doors 49 = .ok (.if_icmp .ge 54, 3) := dk_162 0 54 (dk_at dksX7_doors_2 5 rfl rfl)
theorem dX7_doors_52 : decode cX7_doors 52 = .ok (.iload_n 3, 1) := dk_29 (dk_at dksX7_doors_2 8 rfl rfl)
theorem dX7_doors_53 : decode cX7_doors 53 = .ok (.ifCond .eq 50, 3) := dk_153 0 50 (dk_at dksX7_doors_2 9 rfl rfl)
theorem dX7_doors_56 : decode cX7_doors 56 = .ok (.aload_n 0, 1) := dk_42 (dk_at dksX7_doors_2 12 rfl rfl)
theorem dX7_doors_57 : decode cX7_doors 57 = .ok (.getfield 83, 3) := dk_180 0 83 (dk_at dksX7_doors_2 13 rfl rfl)
theorem dX7_doors_60 : decode cX7_doors 60 = .ok (.iload 4, 2) := dk_21 4 (dk_at dksX7_doors_2 16 rfl rfl)
theorem dX7_doors_62 : decode cX7_doors 62 = .ok (.iaload, 1) := dk_46 (dk_at dksX7_doors_2 18 rfl rfl)
theorem dX7_doors_63 : decode cX7_doors 63 = .ok (.iconst (-1), 1) := dk_2 (dk_at dksX7_doors_2 19 rfl rfl)
theorem dX7_doors_64 : decode cX7_doors 64 = .ok (.if_icmp .ne 27, 3) := dk_160 0 27 (dk_at dksX7_doors_2 20 rfl rfl)
theorem dX7_doors_67 : decode cX7_doors 67 = .ok (.aload_n 0, 1) := dk_42 (dk_at dksX7_doors_2 23 rfl rfl)
theorem dX7_doors_68 : decode cX7_doors 68 = .ok (.iload 4, 2) := dk_21 4 (dk_at dksX7_doors_3 0 rfl rfl)
theorem dX7_doors_70 : decode cX7_doors 70 = .ok (.invokevirtual 456, 3) := dk_182 1 200 (dk_at dksX7_doors_3 2 rfl rfl)
theorem dX7_doors_73 : decode cX7_doors 73 = .ok (.ifCond .eq 18, 3) := dk_153 0 18 (dk_at dksX7_doors_3 5 rfl rfl)
theorem dX7_doors_76 : decode cX7_doors 76 = .ok (.aload_n 0, 1) := dk_42 (dk_at dksX7_doors_3 8 rfl rfl)
theorem dX7_doors_77 : decode cX7_doors 77 = .ok (.iload 4, 2) := dk_21 4 (dk_at dksX7_doors_3 9 rfl rfl)
theorem dX7_doors_79 : decode cX7_doors 79 = .ok (.invokevirtual 456, 3) := dk_182 1 200 (dk_at dksX7_doors_3 11 rfl rfl)
theorem dX7_doors_82 : decode cX7_doors 82 = .ok (.aload_n 0, 1) := dk_42 (dk_at dksX7_doors_3 14 rfl rfl)
theorem dX7_doors_83 : decode cX7_doors 83 = .ok (.iload_n 2, 1) := dk_28 (dk_at dksX7_doors_3 15 rfl rfl)
theorem dX7_doors_84 : decode cX7_doors 84 = .ok (.invokevirtual 469, 3) := dk_182 1 213 (dk_at dksX7_doors_3 16 rfl rfl)
theorem dX7_doors_87 : decode cX7_doors 87 = .ok (.iand, 1) := dk_126 (dk_at dksX7_doors_3 19 rfl rfl)
theorem dX7_doors_88 : decode cX7_doors 88 = .ok (.ifCond .eq 7, 3) := dk_153 0 7 (dk_at dksX7_doors_3 20 rfl rfl)
theorem dX7_doors_91 : decode cX7_doors 91 = .ok (.iconst 1, 1) := dk_4 (dk_at dksX7_doors_3 23 rfl rfl)
theorem dX7_doors_92 : decode cX7_doors 92 = .ok (.goto 4, 3) := dk_167 0 4 (dk_at dksX7_doors_4 0 rfl rfl)
theorem dX7_doors_95 : decode cX7_doors 95 = .ok (.iconst 0, 1) := dk_3 (dk_at dksX7_doors_4 3 rfl rfl)
theorem dX7_doors_96 : decode cX7_doors 96 = .ok (.istore_n 3, 1) := dk_62 (dk_at dksX7_doors_4 4 rfl rfl)
theorem dX7_doors_97 : decode cX7_doors 97 = .ok (.iinc 4 1, 3) := dk_132 4 1 (dk_at dksX7_doors_4 5 rfl rfl)
theorem dX7_doors_100 : decode cX7_doors 100 = .ok (.goto (-59), 3) := dk_167 255 197 (dk_at dksX7_doors_4 8 rfl rfl)
theorem dX7_doors_103 : decode cX7_doors 103 = .ok (.iload_n 3, 1) := dk_29 (dk_at dksX7_doors_4 11 rfl rfl)
theorem dX7_doors_104 : decode cX7_doors 104 = .ok (.ifCond .eq 5, 3) := dk_153 0 5 (dk_at dksX7_doors_4 12 rfl rfl)
theorem dX7_doors_107 : decode cX7_doors 107 = .ok (.iload_n 2, 1) := dk_28 (dk_at dksX7_doors_4 15 rfl rfl)
theorem dX7_doors_108 : decode cX7_doors 108 = .ok (.istore_n 1, 1) := dk_60 (dk_at dksX7_doors_4 16 rfl rfl)
theorem dX7_doors_109 : decode cX7_doors 109 = .ok (.iinc 2 1, 3) := dk_132 2 1 (dk_at dksX7_doors_4 17 rfl rfl)
theorem dX7_doors_112 : decode cX7_doors 112 = .ok (.goto (-103), 3) := dk_167 255 153 (dk_at dksX7_doors_4 20 rfl rfl)
theorem dX7_doors_115 : decode cX7_doors 115 = .ok (.iload_n 1, 1) := dk_27 (dk_at dksX7_doors_4 23 rfl rfl)
theorem dX7_doors_116 : decode cX7_doors 116 = .ok (.ireturn, 1) := dk_172 (dk_at dksX7_doors_5 0 rfl rfl)
abbrev cX7_peopleIn : ByteArray := prog_21_method_87_code
def yX7_peopleIn : MethodName := ⟨RX7, "peopleIn", "(I)I"⟩
def dkwX7_peopleIn_1 : List UInt8 := [153, 0, 9, 28, 4, 29, 120, 128, 61, 132, 3, 1, 167, 255, 224, 28, 172]
abbrev dktX7_peopleIn_1 : List UInt8 := dkwX7_peopleIn_1 ++ []
def dkwX7_peopleIn_0 : List UInt8 := [3, 61, 3, 62, 29, 42, 180, 0, 38, 3, 46, 162, 0, 28, 27, 42, 180, 0, 44, 29, 46, 184, 1, 22]
abbrev dktX7_peopleIn_0 : List UInt8 := dkwX7_peopleIn_0 ++ dktX7_peopleIn_1
theorem dksX7_peopleIn_0 : cX7_peopleIn.data.toList.drop 0 = dktX7_peopleIn_0 := by decide +kernel
theorem dksX7_peopleIn_1 : cX7_peopleIn.data.toList.drop 24 = dktX7_peopleIn_1 := dk_seg dksX7_peopleIn_0 24 rfl rfl
theorem dX7_peopleIn_0 : decode cX7_peopleIn 0 = .ok (.iconst 0, 1) := dk_3 (dk_at dksX7_peopleIn_0 0 rfl rfl)
theorem dX7_peopleIn_1 : decode cX7_peopleIn 1 = .ok (.istore_n 2, 1) := dk_61 (dk_at dksX7_peopleIn_0 1 rfl rfl)
theorem dX7_peopleIn_2 : decode cX7_peopleIn 2 = .ok (.iconst 0, 1) := dk_3 (dk_at dksX7_peopleIn_0 2 rfl rfl)
theorem dX7_peopleIn_3 : decode cX7_peopleIn 3 = .ok (.istore_n 3, 1) := dk_62 (dk_at dksX7_peopleIn_0 3 rfl rfl)
theorem dX7_peopleIn_4 : decode cX7_peopleIn 4 = .ok (.iload_n 3, 1) := dk_29 (dk_at dksX7_peopleIn_0 4 rfl rfl)
theorem dX7_peopleIn_5 : decode cX7_peopleIn 5 = .ok (.aload_n 0, 1) := dk_42 (dk_at dksX7_peopleIn_0 5 rfl rfl)
theorem dX7_peopleIn_6 : decode cX7_peopleIn 6 = .ok (.getfield 38, 3) := dk_180 0 38 (dk_at dksX7_peopleIn_0 6 rfl rfl)
theorem dX7_peopleIn_9 : decode cX7_peopleIn 9 = .ok (.iconst 0, 1) := dk_3 (dk_at dksX7_peopleIn_0 9 rfl rfl)
theorem dX7_peopleIn_10 : decode cX7_peopleIn 10 = .ok (.iaload, 1) := dk_46 (dk_at dksX7_peopleIn_0 10 rfl rfl)
theorem dX7_peopleIn_11 : decode cX7_peopleIn 11 = .ok (.if_icmp .ge 28, 3) := dk_162 0 28 (dk_at dksX7_peopleIn_0 11 rfl rfl)
theorem dX7_peopleIn_14 : decode cX7_peopleIn 14 = .ok (.iload_n 1, 1) := dk_27 (dk_at dksX7_peopleIn_0 14 rfl rfl)
theorem dX7_peopleIn_15 : decode cX7_peopleIn 15 = .ok (.aload_n 0, 1) := dk_42 (dk_at dksX7_peopleIn_0 15 rfl rfl)
theorem dX7_peopleIn_16 : decode cX7_peopleIn 16 = .ok (.getfield 44, 3) := dk_180 0 44 (dk_at dksX7_peopleIn_0 16 rfl rfl)
theorem dX7_peopleIn_19 : decode cX7_peopleIn 19 = .ok (.iload_n 3, 1) := dk_29 (dk_at dksX7_peopleIn_0 19 rfl rfl)
theorem dX7_peopleIn_20 : decode cX7_peopleIn 20 = .ok (.iaload, 1) := dk_46 (dk_at dksX7_peopleIn_0 20 rfl rfl)
theorem dX7_peopleIn_21 : decode cX7_peopleIn 21 = .ok (.invokestatic 278, 3) := dk_184 1 22 (dk_at dksX7_peopleIn_0 21 rfl rfl)
theorem dX7_peopleIn_24 : decode cX7_peopleIn 24 = .ok (.ifCond .eq 9, 3) := dk_153 0 9 (dk_at dksX7_peopleIn_1 0 rfl rfl)
theorem dX7_peopleIn_27 : decode cX7_peopleIn 27 = .ok (.iload_n 2, 1) := dk_28 (dk_at dksX7_peopleIn_1 3 rfl rfl)
theorem dX7_peopleIn_28 : decode cX7_peopleIn 28 = .ok (.iconst 1, 1) := dk_4 (dk_at dksX7_peopleIn_1 4 rfl rfl)
theorem dX7_peopleIn_29 : decode cX7_peopleIn 29 = .ok (.iload_n 3, 1) := dk_29 (dk_at dksX7_peopleIn_1 5 rfl rfl)
theorem dX7_peopleIn_30 : decode cX7_peopleIn 30 = .ok (.ishl, 1) := dk_120 (dk_at dksX7_peopleIn_1 6 rfl rfl)
theorem dX7_peopleIn_31 : decode cX7_peopleIn 31 = .ok (.ior, 1) := dk_128 (dk_at dksX7_peopleIn_1 7 rfl rfl)
theorem dX7_peopleIn_32 : decode cX7_peopleIn 32 = .ok (.istore_n 2, 1) := dk_61 (dk_at dksX7_peopleIn_1 8 rfl rfl)
theorem dX7_peopleIn_33 : decode cX7_peopleIn 33 = .ok (.iinc 3 1, 3) := dk_132 3 1 (dk_at dksX7_peopleIn_1 9 rfl rfl)
theorem dX7_peopleIn_36 : decode cX7_peopleIn 36 = .ok (.goto (-32), 3) := dk_167 255 224 (dk_at dksX7_peopleIn_1 12 rfl rfl)
theorem dX7_peopleIn_39 : decode cX7_peopleIn 39 = .ok (.iload_n 2, 1) := dk_28 (dk_at dksX7_peopleIn_1 15 rfl rfl)
theorem dX7_peopleIn_40 : decode cX7_peopleIn 40 = .ok (.ireturn, 1) := dk_172 (dk_at dksX7_peopleIn_1 16 rfl rfl)
abbrev cX7_see : ByteArray := prog_21_method_89_code
def yX7_see : MethodName := ⟨RX7, "see", "(III)I"⟩
def dkwX7_see_4 : List UInt8 := [79, 42, 89, 180, 1, 74, 4, 96, 181, 1, 74, 42, 180, 1, 74, 172]
abbrev dktX7_see_4 : List UInt8 := dkwX7_see_4 ++ []
def dkwX7_see_3 : List UInt8 := [180, 1, 74, 27, 79, 42, 180, 0, 123, 42, 180, 1, 74, 28, 79, 42, 180, 0, 126, 42, 180, 1, 74, 29]
abbrev dktX7_see_3 : List UInt8 := dkwX7_see_3 ++ dktX7_see_4
def dkwX7_see_2 : List UInt8 := [133, 9, 20, 1, 216, 184, 0, 162, 154, 0, 9, 42, 5, 182, 1, 158, 172, 42, 180, 0, 120, 42]
abbrev dktX7_see_2 : List UInt8 := dkwX7_see_2 ++ dktX7_see_3
def dkwX7_see_1 : List UInt8 := [16, 6, 159, 0, 33, 28, 133, 9, 42, 180, 0, 61, 27, 46, 4, 100, 133, 184, 0, 162, 153, 0, 15, 29]
abbrev dktX7_see_1 : List UInt8 := dkwX7_see_1 ++ dktX7_see_2
def dkwX7_see_0 : List UInt8 := [42, 3, 181, 0, 159, 42, 27, 182, 1, 136, 154, 0, 9, 42, 4, 182, 1, 51, 172, 42, 180, 1, 74]
abbrev dktX7_see_0 : List UInt8 := dkwX7_see_0 ++ dktX7_see_1
theorem dksX7_see_0 : cX7_see.data.toList.drop 0 = dktX7_see_0 := by decide +kernel
theorem dksX7_see_1 : cX7_see.data.toList.drop 23 = dktX7_see_1 := dk_seg dksX7_see_0 23 rfl rfl
theorem dksX7_see_2 : cX7_see.data.toList.drop 47 = dktX7_see_2 := dk_seg dksX7_see_1 24 rfl rfl
theorem dksX7_see_3 : cX7_see.data.toList.drop 69 = dktX7_see_3 := dk_seg dksX7_see_2 22 rfl rfl
theorem dksX7_see_4 : cX7_see.data.toList.drop 93 = dktX7_see_4 := dk_seg dksX7_see_3 24 rfl rfl
theorem dX7_see_0 : decode cX7_see 0 = .ok (.aload_n 0, 1) := dk_42 (dk_at dksX7_see_0 0 rfl rfl)
theorem dX7_see_1 : decode cX7_see 1 = .ok (.iconst 0, 1) := dk_3 (dk_at dksX7_see_0 1 rfl rfl)
theorem dX7_see_2 : decode cX7_see 2 = .ok (.putfield 159, 3) := dk_181 0 159 (dk_at dksX7_see_0 2 rfl rfl)
theorem dX7_see_5 : decode cX7_see 5 = .ok (.aload_n 0, 1) := dk_42 (dk_at dksX7_see_0 5 rfl rfl)
theorem dX7_see_6 : decode cX7_see 6 = .ok (.iload_n 1, 1) := dk_27 (dk_at dksX7_see_0 6 rfl rfl)
theorem dX7_see_7 : decode cX7_see 7 = .ok (.invokevirtual 392, 3) := dk_182 1 136 (dk_at dksX7_see_0 7 rfl rfl)
theorem dX7_see_10 : decode cX7_see 10 = .ok (.ifCond .ne 9, 3) := dk_154 0 9 (dk_at dksX7_see_0 10 rfl rfl)
theorem dX7_see_13 : decode cX7_see 13 = .ok (.aload_n 0, 1) := dk_42 (dk_at dksX7_see_0 13 rfl rfl)
theorem dX7_see_14 : decode cX7_see 14 = .ok (.iconst 1, 1) := dk_4 (dk_at dksX7_see_0 14 rfl rfl)
theorem dX7_see_15 : decode cX7_see 15 = .ok (.invokevirtual 307, 3) := dk_182 1 51 (dk_at dksX7_see_0 15 rfl rfl)
theorem dX7_see_18 : decode cX7_see 18 = .ok (.ireturn, 1) := dk_172 (dk_at dksX7_see_0 18 rfl rfl)
theorem dX7_see_19 : decode cX7_see 19 = .ok (.aload_n 0, 1) := dk_42 (dk_at dksX7_see_0 19 rfl rfl)
theorem dX7_see_20 : decode cX7_see 20 = .ok (.getfield 330, 3) := dk_180 1 74 (dk_at dksX7_see_0 20 rfl rfl)
theorem dX7_see_23 : decode cX7_see 23 = .ok (.bipush 6, 2) := dk_16 6 (dk_at dksX7_see_1 0 rfl rfl)
theorem dX7_see_25 : decode cX7_see 25 = .ok (.if_icmp .eq 33, 3) := dk_159 0 33 (dk_at dksX7_see_1 2 rfl rfl)
theorem dX7_see_28 : decode cX7_see 28 = .ok (.iload_n 2, 1) := dk_28 (dk_at dksX7_see_1 5 rfl rfl)
theorem dX7_see_29 : decode cX7_see 29 = .ok (.i2l, 1) := dk_133 (dk_at dksX7_see_1 6 rfl rfl)
theorem dX7_see_30 : decode cX7_see 30 = .ok (.lconst 0, 1) := dk_9 (dk_at dksX7_see_1 7 rfl rfl)
theorem dX7_see_31 : decode cX7_see 31 = .ok (.aload_n 0, 1) := dk_42 (dk_at dksX7_see_1 8 rfl rfl)
theorem dX7_see_32 : decode cX7_see 32 = .ok (.getfield 61, 3) := dk_180 0 61 (dk_at dksX7_see_1 9 rfl rfl)
theorem dX7_see_35 : decode cX7_see 35 = .ok (.iload_n 1, 1) := dk_27 (dk_at dksX7_see_1 12 rfl rfl)
theorem dX7_see_36 : decode cX7_see 36 = .ok (.iaload, 1) := dk_46 (dk_at dksX7_see_1 13 rfl rfl)
theorem dX7_see_37 : decode cX7_see 37 = .ok (.iconst 1, 1) := dk_4 (dk_at dksX7_see_1 14 rfl rfl)
theorem dX7_see_38 : decode cX7_see 38 = .ok (.isub, 1) := dk_100 (dk_at dksX7_see_1 15 rfl rfl)
theorem dX7_see_39 : decode cX7_see 39 = .ok (.i2l, 1) := dk_133 (dk_at dksX7_see_1 16 rfl rfl)
theorem dX7_see_40 : decode cX7_see 40 = .ok (.invokestatic 162, 3) := dk_184 0 162 (dk_at dksX7_see_1 17 rfl rfl)
theorem dX7_see_43 : decode cX7_see 43 = .ok (.ifCond .eq 15, 3) := dk_153 0 15 (dk_at dksX7_see_1 20 rfl rfl)
theorem dX7_see_46 : decode cX7_see 46 = .ok (.iload_n 3, 1) := dk_29 (dk_at dksX7_see_1 23 rfl rfl)
theorem dX7_see_47 : decode cX7_see 47 = .ok (.i2l, 1) := dk_133 (dk_at dksX7_see_2 0 rfl rfl)
theorem dX7_see_48 : decode cX7_see 48 = .ok (.lconst 0, 1) := dk_9 (dk_at dksX7_see_2 1 rfl rfl)
theorem dX7_see_49 : decode cX7_see 49 = .ok (.ldc2_w 472, 3) := dk_20 1 216 (dk_at dksX7_see_2 2 rfl rfl)
theorem dX7_see_52 : decode cX7_see 52 = .ok (.invokestatic 162, 3) := dk_184 0 162 (dk_at dksX7_see_2 5 rfl rfl)
theorem dX7_see_55 : decode cX7_see 55 = .ok (.ifCond .ne 9, 3) := dk_154 0 9 (dk_at dksX7_see_2 8 rfl rfl)
theorem dX7_see_58 : decode cX7_see 58 = .ok (.aload_n 0, 1) := dk_42 (dk_at dksX7_see_2 11 rfl rfl)
theorem dX7_see_59 : decode cX7_see 59 = .ok (.iconst 2, 1) := dk_5 (dk_at dksX7_see_2 12 rfl rfl)
theorem dX7_see_60 : decode cX7_see 60 = .ok (.invokevirtual 414, 3) := dk_182 1 158 (dk_at dksX7_see_2 13 rfl rfl)
theorem dX7_see_63 : decode cX7_see 63 = .ok (.ireturn, 1) := dk_172 (dk_at dksX7_see_2 16 rfl rfl)
theorem dX7_see_64 : decode cX7_see 64 = .ok (.aload_n 0, 1) := dk_42 (dk_at dksX7_see_2 17 rfl rfl)
theorem dX7_see_65 : decode cX7_see 65 = .ok (.getfield 120, 3) := dk_180 0 120 (dk_at dksX7_see_2 18 rfl rfl)
theorem dX7_see_68 : decode cX7_see 68 = .ok (.aload_n 0, 1) := dk_42 (dk_at dksX7_see_2 21 rfl rfl)
theorem dX7_see_69 : decode cX7_see 69 = .ok (.getfield 330, 3) := dk_180 1 74 (dk_at dksX7_see_3 0 rfl rfl)
theorem dX7_see_72 : decode cX7_see 72 = .ok (.iload_n 1, 1) := dk_27 (dk_at dksX7_see_3 3 rfl rfl)
theorem dX7_see_73 : decode cX7_see 73 = .ok (.iastore, 1) := dk_79 (dk_at dksX7_see_3 4 rfl rfl)
theorem dX7_see_74 : decode cX7_see 74 = .ok (.aload_n 0, 1) := dk_42 (dk_at dksX7_see_3 5 rfl rfl)
theorem dX7_see_75 : decode cX7_see 75 = .ok (.getfield 123, 3) := dk_180 0 123 (dk_at dksX7_see_3 6 rfl rfl)
theorem dX7_see_78 : decode cX7_see 78 = .ok (.aload_n 0, 1) := dk_42 (dk_at dksX7_see_3 9 rfl rfl)
theorem dX7_see_79 : decode cX7_see 79 = .ok (.getfield 330, 3) := dk_180 1 74 (dk_at dksX7_see_3 10 rfl rfl)
theorem dX7_see_82 : decode cX7_see 82 = .ok (.iload_n 2, 1) := dk_28 (dk_at dksX7_see_3 13 rfl rfl)
theorem dX7_see_83 : decode cX7_see 83 = .ok (.iastore, 1) := dk_79 (dk_at dksX7_see_3 14 rfl rfl)
theorem dX7_see_84 : decode cX7_see 84 = .ok (.aload_n 0, 1) := dk_42 (dk_at dksX7_see_3 15 rfl rfl)
theorem dX7_see_85 : decode cX7_see 85 = .ok (.getfield 126, 3) := dk_180 0 126 (dk_at dksX7_see_3 16 rfl rfl)
theorem dX7_see_88 : decode cX7_see 88 = .ok (.aload_n 0, 1) := dk_42 (dk_at dksX7_see_3 19 rfl rfl)
theorem dX7_see_89 : decode cX7_see 89 = .ok (.getfield 330, 3) := dk_180 1 74 (dk_at dksX7_see_3 20 rfl rfl)
theorem dX7_see_92 : decode cX7_see 92 = .ok (.iload_n 3, 1) := dk_29 (dk_at dksX7_see_3 23 rfl rfl)
theorem dX7_see_93 : decode cX7_see 93 = .ok (.iastore, 1) := dk_79 (dk_at dksX7_see_4 0 rfl rfl)
theorem dX7_see_94 : decode cX7_see 94 = .ok (.aload_n 0, 1) := dk_42 (dk_at dksX7_see_4 1 rfl rfl)
theorem dX7_see_95 : decode cX7_see 95 = .ok (.dup, 1) := dk_89 (dk_at dksX7_see_4 2 rfl rfl)
theorem dX7_see_96 : decode cX7_see 96 = .ok (.getfield 330, 3) := dk_180 1 74 (dk_at dksX7_see_4 3 rfl rfl)
theorem dX7_see_99 : decode cX7_see 99 = .ok (.iconst 1, 1) := dk_4 (dk_at dksX7_see_4 6 rfl rfl)
theorem dX7_see_100 : decode cX7_see 100 = .ok (.iadd, 1) := dk_96 (dk_at dksX7_see_4 7 rfl rfl)
theorem dX7_see_101 : decode cX7_see 101 = .ok (.putfield 330, 3) := dk_181 1 74 (dk_at dksX7_see_4 8 rfl rfl)
theorem dX7_see_104 : decode cX7_see 104 = .ok (.aload_n 0, 1) := dk_42 (dk_at dksX7_see_4 11 rfl rfl)
theorem dX7_see_105 : decode cX7_see 105 = .ok (.getfield 330, 3) := dk_180 1 74 (dk_at dksX7_see_4 12 rfl rfl)
theorem dX7_see_108 : decode cX7_see 108 = .ok (.ireturn, 1) := dk_172 (dk_at dksX7_see_4 15 rfl rfl)
abbrev cX7_who : ByteArray := prog_21_method_90_code
def yX7_who : MethodName := ⟨RX7, "who", "(I)I"⟩
def dkwX7_who_6 : List UInt8 := [167, 255, 138, 28, 172]
abbrev dktX7_who_6 : List UInt8 := dkwX7_who_6 ++ []
def dkwX7_who_5 : List UInt8 := [132, 5, 1, 167, 255, 199, 28, 21, 4, 153, 0, 9, 4, 29, 120, 167, 0, 4, 3, 128, 61, 132, 3, 1]
abbrev dktX7_who_5 : List UInt8 := dkwX7_who_5 ++ dktX7_who_6
def dkwX7_who_4 : List UInt8 := [180, 0, 123, 21, 5, 46, 46, 42, 180, 0, 126, 21, 5, 46, 160, 0, 7, 4, 167, 0, 4, 3, 54, 4]
abbrev dktX7_who_4 : List UInt8 := dkwX7_who_4 ++ dktX7_who_5
def dkwX7_who_3 : List UInt8 := [162, 0, 54, 21, 4, 153, 0, 49, 42, 180, 0, 120, 21, 5, 46, 27, 160, 0, 25, 42, 180, 0, 102, 42]
abbrev dktX7_who_3 : List UInt8 := dkwX7_who_3 ++ dktX7_who_4
def dkwX7_who_2 : List UInt8 := [54, 4, 21, 4, 153, 0, 9, 42, 29, 27, 182, 1, 147, 3, 54, 5, 21, 5, 42, 180, 1, 74]
abbrev dktX7_who_2 : List UInt8 := dkwX7_who_2 ++ dktX7_who_3
def dkwX7_who_1 : List UInt8 := [42, 180, 0, 38, 3, 46, 162, 0, 114, 42, 29, 27, 182, 1, 99, 154, 0, 7, 4, 167, 0, 4, 3]
abbrev dktX7_who_1 : List UInt8 := dkwX7_who_1 ++ dktX7_who_2
def dkwX7_who_0 : List UInt8 := [42, 3, 181, 0, 159, 42, 27, 182, 1, 136, 154, 0, 9, 42, 4, 182, 1, 51, 172, 3, 61, 3, 62, 29]
abbrev dktX7_who_0 : List UInt8 := dkwX7_who_0 ++ dktX7_who_1
theorem dksX7_who_0 : cX7_who.data.toList.drop 0 = dktX7_who_0 := by decide +kernel
theorem dksX7_who_1 : cX7_who.data.toList.drop 24 = dktX7_who_1 := dk_seg dksX7_who_0 24 rfl rfl
theorem dksX7_who_2 : cX7_who.data.toList.drop 47 = dktX7_who_2 := dk_seg dksX7_who_1 23 rfl rfl
theorem dksX7_who_3 : cX7_who.data.toList.drop 69 = dktX7_who_3 := dk_seg dksX7_who_2 22 rfl rfl
theorem dksX7_who_4 : cX7_who.data.toList.drop 93 = dktX7_who_4 := dk_seg dksX7_who_3 24 rfl rfl
theorem dksX7_who_5 : cX7_who.data.toList.drop 117 = dktX7_who_5 := dk_seg dksX7_who_4 24 rfl rfl
theorem dksX7_who_6 : cX7_who.data.toList.drop 141 = dktX7_who_6 := dk_seg dksX7_who_5 24 rfl rfl
theorem dX7_who_0 : decode cX7_who 0 = .ok (.aload_n 0, 1) := dk_42 (dk_at dksX7_who_0 0 rfl rfl)
theorem dX7_who_1 : decode cX7_who 1 = .ok (.iconst 0, 1) := dk_3 (dk_at dksX7_who_0 1 rfl rfl)
theorem dX7_who_2 : decode cX7_who 2 = .ok (.putfield 159, 3) := dk_181 0 159 (dk_at dksX7_who_0 2 rfl rfl)
theorem dX7_who_5 : decode cX7_who 5 = .ok (.aload_n 0, 1) := dk_42 (dk_at dksX7_who_0 5 rfl rfl)
theorem dX7_who_6 : decode cX7_who 6 = .ok (.iload_n 1, 1) := dk_27 (dk_at dksX7_who_0 6 rfl rfl)
theorem dX7_who_7 : decode cX7_who 7 = .ok (.invokevirtual 392, 3) := dk_182 1 136 (dk_at dksX7_who_0 7 rfl rfl)
theorem dX7_who_10 : decode cX7_who 10 = .ok (.ifCond .ne 9, 3) := dk_154 0 9 (dk_at dksX7_who_0 10 rfl rfl)
theorem dX7_who_13 : decode cX7_who 13 = .ok (.aload_n 0, 1) := dk_42 (dk_at dksX7_who_0 13 rfl rfl)
theorem dX7_who_14 : decode cX7_who 14 = .ok (.iconst 1, 1) := dk_4 (dk_at dksX7_who_0 14 rfl rfl)
theorem dX7_who_15 : decode cX7_who 15 = .ok (.invokevirtual 307, 3) := dk_182 1 51 (dk_at dksX7_who_0 15 rfl rfl)
theorem dX7_who_18 : decode cX7_who 18 = .ok (.ireturn, 1) := dk_172 (dk_at dksX7_who_0 18 rfl rfl)
theorem dX7_who_19 : decode cX7_who 19 = .ok (.iconst 0, 1) := dk_3 (dk_at dksX7_who_0 19 rfl rfl)
theorem dX7_who_20 : decode cX7_who 20 = .ok (.istore_n 2, 1) := dk_61 (dk_at dksX7_who_0 20 rfl rfl)
theorem dX7_who_21 : decode cX7_who 21 = .ok (.iconst 0, 1) := dk_3 (dk_at dksX7_who_0 21 rfl rfl)
theorem dX7_who_22 : decode cX7_who 22 = .ok (.istore_n 3, 1) := dk_62 (dk_at dksX7_who_0 22 rfl rfl)
theorem dX7_who_23 : decode cX7_who 23 = .ok (.iload_n 3, 1) := dk_29 (dk_at dksX7_who_0 23 rfl rfl)
theorem dX7_who_24 : decode cX7_who 24 = .ok (.aload_n 0, 1) := dk_42 (dk_at dksX7_who_1 0 rfl rfl)
theorem dX7_who_25 : decode cX7_who 25 = .ok (.getfield 38, 3) := dk_180 0 38 (dk_at dksX7_who_1 1 rfl rfl)
theorem dX7_who_28 : decode cX7_who 28 = .ok (.iconst 0, 1) := dk_3 (dk_at dksX7_who_1 4 rfl rfl)
theorem dX7_who_29 : decode cX7_who 29 = .ok (.iaload, 1) := dk_46 (dk_at dksX7_who_1 5 rfl rfl)
theorem dX7_who_30 : decode cX7_who 30 = .ok (.if_icmp .ge 114, 3) := dk_162 0 114 (dk_at dksX7_who_1 6 rfl rfl)
theorem dX7_who_33 : decode cX7_who 33 = .ok (.aload_n 0, 1) := dk_42 (dk_at dksX7_who_1 9 rfl rfl)
theorem dX7_who_34 : decode cX7_who 34 = .ok (.iload_n 3, 1) := dk_29 (dk_at dksX7_who_1 10 rfl rfl)
theorem dX7_who_35 : decode cX7_who 35 = .ok (.iload_n 1, 1) := dk_27 (dk_at dksX7_who_1 11 rfl rfl)
theorem dX7_who_36 : decode cX7_who 36 = .ok (.invokevirtual 355, 3) := dk_182 1 99 (dk_at dksX7_who_1 12 rfl rfl)
theorem dX7_who_39 : decode cX7_who 39 = .ok (.ifCond .ne 7, 3) := dk_154 0 7 (dk_at dksX7_who_1 15 rfl rfl)
theorem dX7_who_42 : decode cX7_who 42 = .ok (.iconst 1, 1) := dk_4 (dk_at dksX7_who_1 18 rfl rfl)
theorem dX7_who_43 : decode cX7_who 43 = .ok (.goto 4, 3) := dk_167 0 4 (dk_at dksX7_who_1 19 rfl rfl)
theorem dX7_who_46 : decode cX7_who 46 = .ok (.iconst 0, 1) := dk_3 (dk_at dksX7_who_1 22 rfl rfl)
theorem dX7_who_47 : decode cX7_who 47 = .ok (.istore 4, 2) := dk_54 4 (dk_at dksX7_who_2 0 rfl rfl)
theorem dX7_who_49 : decode cX7_who 49 = .ok (.iload 4, 2) := dk_21 4 (dk_at dksX7_who_2 2 rfl rfl)
theorem dX7_who_51 : decode cX7_who 51 = .ok (.ifCond .eq 9, 3) := dk_153 0 9 (dk_at dksX7_who_2 4 rfl rfl)
theorem dX7_who_54 : decode cX7_who 54 = .ok (.aload_n 0, 1) := dk_42 (dk_at dksX7_who_2 7 rfl rfl)
theorem dX7_who_55 : decode cX7_who 55 = .ok (.iload_n 3, 1) := dk_29 (dk_at dksX7_who_2 8 rfl rfl)
theorem dX7_who_56 : decode cX7_who 56 = .ok (.iload_n 1, 1) := dk_27 (dk_at dksX7_who_2 9 rfl rfl)
theorem dX7_who_57 : decode cX7_who 57 = .ok (.invokevirtual 403, 3) := dk_182 1 147 (dk_at dksX7_who_2 10 rfl rfl)
theorem dX7_who_60 : decode cX7_who 60 = .ok (.iconst 0, 1) := dk_3 (dk_at dksX7_who_2 13 rfl rfl)
theorem dX7_who_61 : decode cX7_who 61 = .ok (.istore 5, 2) := dk_54 5 (dk_at dksX7_who_2 14 rfl rfl)
theorem dX7_who_63 : decode cX7_who 63 = .ok (.iload 5, 2) := dk_21 5 (dk_at dksX7_who_2 16 rfl rfl)
theorem dX7_who_65 : decode cX7_who 65 = .ok (.aload_n 0, 1) := dk_42 (dk_at dksX7_who_2 18 rfl rfl)
theorem dX7_who_66 : decode cX7_who 66 = .ok (.getfield 330, 3) := dk_180 1 74 (dk_at dksX7_who_2 19 rfl rfl)
theorem dX7_who_69 : decode cX7_who 69 = .ok (.if_icmp .ge 54, 3) := dk_162 0 54 (dk_at dksX7_who_3 0 rfl rfl)
theorem dX7_who_72 : decode cX7_who 72 = .ok (.iload 4, 2) := dk_21 4 (dk_at dksX7_who_3 3 rfl rfl)
theorem dX7_who_74 : decode cX7_who 74 = .ok (.ifCond .eq 49, 3) := dk_153 0 49 (dk_at dksX7_who_3 5 rfl rfl)
theorem dX7_who_77 : decode cX7_who 77 = .ok (.aload_n 0, 1) := dk_42 (dk_at dksX7_who_3 8 rfl rfl)
theorem dX7_who_78 : decode cX7_who 78 = .ok (.getfield 120, 3) := dk_180 0 120 (dk_at dksX7_who_3 9 rfl rfl)
theorem dX7_who_81 : decode cX7_who 81 = .ok (.iload 5, 2) := dk_21 5 (dk_at dksX7_who_3 12 rfl rfl)
theorem dX7_who_83 : decode cX7_who 83 = .ok (.iaload, 1) := dk_46 (dk_at dksX7_who_3 14 rfl rfl)
theorem dX7_who_84 : decode cX7_who 84 = .ok (.iload_n 1, 1) := dk_27 (dk_at dksX7_who_3 15 rfl rfl)
theorem dX7_who_85 : decode cX7_who 85 = .ok (.if_icmp .ne 25, 3) := dk_160 0 25 (dk_at dksX7_who_3 16 rfl rfl)
theorem dX7_who_88 : decode cX7_who 88 = .ok (.aload_n 0, 1) := dk_42 (dk_at dksX7_who_3 19 rfl rfl)
theorem dX7_who_89 : decode cX7_who 89 = .ok (.getfield 102, 3) := dk_180 0 102 (dk_at dksX7_who_3 20 rfl rfl)
theorem dX7_who_92 : decode cX7_who 92 = .ok (.aload_n 0, 1) := dk_42 (dk_at dksX7_who_3 23 rfl rfl)
theorem dX7_who_93 : decode cX7_who 93 = .ok (.getfield 123, 3) := dk_180 0 123 (dk_at dksX7_who_4 0 rfl rfl)
theorem dX7_who_96 : decode cX7_who 96 = .ok (.iload 5, 2) := dk_21 5 (dk_at dksX7_who_4 3 rfl rfl)
theorem dX7_who_98 : decode cX7_who 98 = .ok (.iaload, 1) := dk_46 (dk_at dksX7_who_4 5 rfl rfl)
theorem dX7_who_99 : decode cX7_who 99 = .ok (.iaload, 1) := dk_46 (dk_at dksX7_who_4 6 rfl rfl)
theorem dX7_who_100 : decode cX7_who 100 = .ok (.aload_n 0, 1) := dk_42 (dk_at dksX7_who_4 7 rfl rfl)
theorem dX7_who_101 : decode cX7_who 101 = .ok (.getfield 126, 3) := dk_180 0 126 (dk_at dksX7_who_4 8 rfl rfl)
theorem dX7_who_104 : decode cX7_who 104 = .ok (.iload 5, 2) := dk_21 5 (dk_at dksX7_who_4 11 rfl rfl)
theorem dX7_who_106 : decode cX7_who 106 = .ok (.iaload, 1) := dk_46 (dk_at dksX7_who_4 13 rfl rfl)
theorem dX7_who_107 : decode cX7_who 107 = .ok (.if_icmp .ne 7, 3) := dk_160 0 7 (dk_at dksX7_who_4 14 rfl rfl)
theorem dX7_who_110 : decode cX7_who 110 = .ok (.iconst 1, 1) := dk_4 (dk_at dksX7_who_4 17 rfl rfl)
theorem dX7_who_111 : decode cX7_who 111 = .ok (.goto 4, 3) := dk_167 0 4 (dk_at dksX7_who_4 18 rfl rfl)
theorem dX7_who_114 : decode cX7_who 114 = .ok (.iconst 0, 1) := dk_3 (dk_at dksX7_who_4 21 rfl rfl)
theorem dX7_who_115 : decode cX7_who 115 = .ok (.istore 4, 2) := dk_54 4 (dk_at dksX7_who_4 22 rfl rfl)
theorem dX7_who_117 : decode cX7_who 117 = .ok (.iinc 5 1, 3) := dk_132 5 1 (dk_at dksX7_who_5 0 rfl rfl)
theorem dX7_who_120 : decode cX7_who 120 = .ok (.goto (-57), 3) := dk_167 255 199 (dk_at dksX7_who_5 3 rfl rfl)
theorem dX7_who_123 : decode cX7_who 123 = .ok (.iload_n 2, 1) := dk_28 (dk_at dksX7_who_5 6 rfl rfl)
theorem dX7_who_124 : decode cX7_who 124 = .ok (.iload 4, 2) := dk_21 4 (dk_at dksX7_who_5 7 rfl rfl)
theorem dX7_who_126 : decode cX7_who 126 = .ok (.ifCond .eq 9, 3) := dk_153 0 9 (dk_at dksX7_who_5 9 rfl rfl)
theorem dX7_who_129 : decode cX7_who 129 = .ok (.iconst 1, 1) := dk_4 (dk_at dksX7_who_5 12 rfl rfl)
theorem dX7_who_130 : decode cX7_who 130 = .ok (.iload_n 3, 1) := dk_29 (dk_at dksX7_who_5 13 rfl rfl)
theorem dX7_who_131 : decode cX7_who 131 = .ok (.ishl, 1) := dk_120 (dk_at dksX7_who_5 14 rfl rfl)
theorem dX7_who_132 : decode cX7_who 132 = .ok (.goto 4, 3) := dk_167 0 4 (dk_at dksX7_who_5 15 rfl rfl)
theorem dX7_who_135 : decode cX7_who 135 = .ok (.iconst 0, 1) := dk_3 (dk_at dksX7_who_5 18 rfl rfl)
theorem dX7_who_136 : decode cX7_who 136 = .ok (.ior, 1) := dk_128 (dk_at dksX7_who_5 19 rfl rfl)
theorem dX7_who_137 : decode cX7_who 137 = .ok (.istore_n 2, 1) := dk_61 (dk_at dksX7_who_5 20 rfl rfl)
theorem dX7_who_138 : decode cX7_who 138 = .ok (.iinc 3 1, 3) := dk_132 3 1 (dk_at dksX7_who_5 21 rfl rfl)
theorem dX7_who_141 : decode cX7_who 141 = .ok (.goto (-118), 3) := dk_167 255 138 (dk_at dksX7_who_6 0 rfl rfl)
theorem dX7_who_144 : decode cX7_who 144 = .ok (.iload_n 2, 1) := dk_28 (dk_at dksX7_who_6 3 rfl rfl)
theorem dX7_who_145 : decode cX7_who 145 = .ok (.ireturn, 1) := dk_172 (dk_at dksX7_who_6 4 rfl rfl)
abbrev cX7_balk : ByteArray := prog_21_method_91_code
def yX7_balk : MethodName := ⟨RX7, "balk", "(II)I"⟩
def dkwX7_balk_3 : List UInt8 := [181, 1, 77, 42, 180, 1, 77, 172]
abbrev dktX7_balk_3 : List UInt8 := dkwX7_balk_3 ++ []
def dkwX7_balk_2 : List UInt8 := [180, 1, 77, 27, 79, 42, 180, 0, 132, 42, 180, 1, 77, 28, 79, 42, 89, 180, 1, 77, 4, 96]
abbrev dktX7_balk_2 : List UInt8 := dkwX7_balk_2 ++ dktX7_balk_3
def dkwX7_balk_1 : List UInt8 := [182, 1, 51, 172, 42, 180, 1, 77, 7, 160, 0, 9, 42, 5, 182, 1, 158, 172, 42, 180, 0, 129, 42]
abbrev dktX7_balk_1 : List UInt8 := dkwX7_balk_1 ++ dktX7_balk_2
def dkwX7_balk_0 : List UInt8 := [42, 3, 181, 0, 159, 42, 27, 182, 1, 133, 153, 0, 11, 42, 28, 182, 1, 136, 154, 0, 9, 42, 4]
abbrev dktX7_balk_0 : List UInt8 := dkwX7_balk_0 ++ dktX7_balk_1
theorem dksX7_balk_0 : cX7_balk.data.toList.drop 0 = dktX7_balk_0 := by decide +kernel
theorem dksX7_balk_1 : cX7_balk.data.toList.drop 23 = dktX7_balk_1 := dk_seg dksX7_balk_0 23 rfl rfl
theorem dksX7_balk_2 : cX7_balk.data.toList.drop 46 = dktX7_balk_2 := dk_seg dksX7_balk_1 23 rfl rfl
theorem dksX7_balk_3 : cX7_balk.data.toList.drop 68 = dktX7_balk_3 := dk_seg dksX7_balk_2 22 rfl rfl
theorem dX7_balk_0 : decode cX7_balk 0 = .ok (.aload_n 0, 1) := dk_42 (dk_at dksX7_balk_0 0 rfl rfl)
theorem dX7_balk_1 : decode cX7_balk 1 = .ok (.iconst 0, 1) := dk_3 (dk_at dksX7_balk_0 1 rfl rfl)
theorem dX7_balk_2 : decode cX7_balk 2 = .ok (.putfield 159, 3) := dk_181 0 159 (dk_at dksX7_balk_0 2 rfl rfl)
theorem dX7_balk_5 : decode cX7_balk 5 = .ok (.aload_n 0, 1) := dk_42 (dk_at dksX7_balk_0 5 rfl rfl)
theorem dX7_balk_6 : decode cX7_balk 6 = .ok (.iload_n 1, 1) := dk_27 (dk_at dksX7_balk_0 6 rfl rfl)
theorem dX7_balk_7 : decode cX7_balk 7 = .ok (.invokevirtual 389, 3) := dk_182 1 133 (dk_at dksX7_balk_0 7 rfl rfl)
theorem dX7_balk_10 : decode cX7_balk 10 = .ok (.ifCond .eq 11, 3) := dk_153 0 11 (dk_at dksX7_balk_0 10 rfl rfl)
theorem dX7_balk_13 : decode cX7_balk 13 = .ok (.aload_n 0, 1) := dk_42 (dk_at dksX7_balk_0 13 rfl rfl)
theorem dX7_balk_14 : decode cX7_balk 14 = .ok (.iload_n 2, 1) := dk_28 (dk_at dksX7_balk_0 14 rfl rfl)
theorem dX7_balk_15 : decode cX7_balk 15 = .ok (.invokevirtual 392, 3) := dk_182 1 136 (dk_at dksX7_balk_0 15 rfl rfl)
theorem dX7_balk_18 : decode cX7_balk 18 = .ok (.ifCond .ne 9, 3) := dk_154 0 9 (dk_at dksX7_balk_0 18 rfl rfl)
theorem dX7_balk_21 : decode cX7_balk 21 = .ok (.aload_n 0, 1) := dk_42 (dk_at dksX7_balk_0 21 rfl rfl)
theorem dX7_balk_22 : decode cX7_balk 22 = .ok (.iconst 1, 1) := dk_4 (dk_at dksX7_balk_0 22 rfl rfl)
theorem dX7_balk_23 : decode cX7_balk 23 = .ok (.invokevirtual 307, 3) := dk_182 1 51 (dk_at dksX7_balk_1 0 rfl rfl)
theorem dX7_balk_26 : decode cX7_balk 26 = .ok (.ireturn, 1) := dk_172 (dk_at dksX7_balk_1 3 rfl rfl)
theorem dX7_balk_27 : decode cX7_balk 27 = .ok (.aload_n 0, 1) := dk_42 (dk_at dksX7_balk_1 4 rfl rfl)
theorem dX7_balk_28 : decode cX7_balk 28 = .ok (.getfield 333, 3) := dk_180 1 77 (dk_at dksX7_balk_1 5 rfl rfl)
theorem dX7_balk_31 : decode cX7_balk 31 = .ok (.iconst 4, 1) := dk_7 (dk_at dksX7_balk_1 8 rfl rfl)
theorem dX7_balk_32 : decode cX7_balk 32 = .ok (.if_icmp .ne 9, 3) := dk_160 0 9 (dk_at dksX7_balk_1 9 rfl rfl)
theorem dX7_balk_35 : decode cX7_balk 35 = .ok (.aload_n 0, 1) := dk_42 (dk_at dksX7_balk_1 12 rfl rfl)
theorem dX7_balk_36 : decode cX7_balk 36 = .ok (.iconst 2, 1) := dk_5 (dk_at dksX7_balk_1 13 rfl rfl)
theorem dX7_balk_37 : decode cX7_balk 37 = .ok (.invokevirtual 414, 3) := dk_182 1 158 (dk_at dksX7_balk_1 14 rfl rfl)
theorem dX7_balk_40 : decode cX7_balk 40 = .ok (.ireturn, 1) := dk_172 (dk_at dksX7_balk_1 17 rfl rfl)
theorem dX7_balk_41 : decode cX7_balk 41 = .ok (.aload_n 0, 1) := dk_42 (dk_at dksX7_balk_1 18 rfl rfl)
theorem dX7_balk_42 : decode cX7_balk 42 = .ok (.getfield 129, 3) := dk_180 0 129 (dk_at dksX7_balk_1 19 rfl rfl)
theorem dX7_balk_45 : decode cX7_balk 45 = .ok (.aload_n 0, 1) := dk_42 (dk_at dksX7_balk_1 22 rfl rfl)
theorem dX7_balk_46 : decode cX7_balk 46 = .ok (.getfield 333, 3) := dk_180 1 77 (dk_at dksX7_balk_2 0 rfl rfl)
theorem dX7_balk_49 : decode cX7_balk 49 = .ok (.iload_n 1, 1) := dk_27 (dk_at dksX7_balk_2 3 rfl rfl)
theorem dX7_balk_50 : decode cX7_balk 50 = .ok (.iastore, 1) := dk_79 (dk_at dksX7_balk_2 4 rfl rfl)
theorem dX7_balk_51 : decode cX7_balk 51 = .ok (.aload_n 0, 1) := dk_42 (dk_at dksX7_balk_2 5 rfl rfl)
theorem dX7_balk_52 : decode cX7_balk 52 = .ok (.getfield 132, 3) := dk_180 0 132 (dk_at dksX7_balk_2 6 rfl rfl)
theorem dX7_balk_55 : decode cX7_balk 55 = .ok (.aload_n 0, 1) := dk_42 (dk_at dksX7_balk_2 9 rfl rfl)
theorem dX7_balk_56 : decode cX7_balk 56 = .ok (.getfield 333, 3) := dk_180 1 77 (dk_at dksX7_balk_2 10 rfl rfl)
theorem dX7_balk_59 : decode cX7_balk 59 = .ok (.iload_n 2, 1) := dk_28 (dk_at dksX7_balk_2 13 rfl rfl)
theorem dX7_balk_60 : decode cX7_balk 60 = .ok (.iastore, 1) := dk_79 (dk_at dksX7_balk_2 14 rfl rfl)
theorem dX7_balk_61 : decode cX7_balk 61 = .ok (.aload_n 0, 1) := dk_42 (dk_at dksX7_balk_2 15 rfl rfl)
theorem dX7_balk_62 : decode cX7_balk 62 = .ok (.dup, 1) := dk_89 (dk_at dksX7_balk_2 16 rfl rfl)
theorem dX7_balk_63 : decode cX7_balk 63 = .ok (.getfield 333, 3) := dk_180 1 77 (dk_at dksX7_balk_2 17 rfl rfl)
theorem dX7_balk_66 : decode cX7_balk 66 = .ok (.iconst 1, 1) := dk_4 (dk_at dksX7_balk_2 20 rfl rfl)
theorem dX7_balk_67 : decode cX7_balk 67 = .ok (.iadd, 1) := dk_96 (dk_at dksX7_balk_2 21 rfl rfl)
theorem dX7_balk_68 : decode cX7_balk 68 = .ok (.putfield 333, 3) := dk_181 1 77 (dk_at dksX7_balk_3 0 rfl rfl)
theorem dX7_balk_71 : decode cX7_balk 71 = .ok (.aload_n 0, 1) := dk_42 (dk_at dksX7_balk_3 3 rfl rfl)
theorem dX7_balk_72 : decode cX7_balk 72 = .ok (.getfield 333, 3) := dk_180 1 77 (dk_at dksX7_balk_3 4 rfl rfl)
theorem dX7_balk_75 : decode cX7_balk 75 = .ok (.ireturn, 1) := dk_172 (dk_at dksX7_balk_3 7 rfl rfl)
abbrev cX7_whom : ByteArray := prog_21_method_93_code
def yX7_whom : MethodName := ⟨RX7, "whom", "(I)I"⟩
def dkwX7_whom_7 : List UInt8 := [28, 167, 0, 4, 29, 172]
abbrev dktX7_whom_7 : List UInt8 := dkwX7_whom_7 ++ []
def dkwX7_whom_6 : List UInt8 := [21, 5, 96, 167, 0, 4, 29, 62, 132, 5, 1, 167, 255, 146, 132, 4, 1, 167, 255, 123, 27, 154, 0, 7]
abbrev dktX7_whom_6 : List UInt8 := dkwX7_whom_6 ++ dktX7_whom_7
def dkwX7_whom_5 : List UInt8 := [182, 1, 161, 21, 7, 154, 0, 6, 167, 0, 24, 132, 2, 1, 29, 2, 160, 0, 14, 16, 10, 21, 4, 104]
abbrev dktX7_whom_5 : List UInt8 := dkwX7_whom_5 ++ dktX7_whom_6
def dkwX7_whom_4 : List UInt8 := [21, 4, 21, 5, 42, 180, 1, 65, 182, 1, 161, 42, 182, 1, 218, 54, 7, 42, 21, 4, 21, 5, 21, 6]
abbrev dktX7_whom_4 : List UInt8 := dkwX7_whom_4 ++ dktX7_whom_5
def dkwX7_whom_3 : List UInt8 := [182, 1, 93, 153, 0, 6, 167, 0, 74, 42, 180, 0, 67, 21, 4, 21, 5, 184, 1, 26, 46, 54, 6, 42]
abbrev dktX7_whom_3 : List UInt8 := dkwX7_whom_3 ++ dktX7_whom_4
def dkwX7_whom_2 : List UInt8 := [180, 0, 38, 3, 46, 162, 0, 105, 42, 21, 4, 21, 5, 182, 1, 93, 153, 0, 17, 42, 21, 5, 21, 4]
abbrev dktX7_whom_2 : List UInt8 := dkwX7_whom_2 ++ dktX7_whom_3
def dkwX7_whom_1 : List UInt8 := [3, 54, 4, 21, 4, 42, 180, 0, 38, 3, 46, 162, 0, 128, 21, 4, 4, 96, 54, 5, 21, 5, 42]
abbrev dktX7_whom_1 : List UInt8 := dkwX7_whom_1 ++ dktX7_whom_2
def dkwX7_whom_0 : List UInt8 := [42, 3, 181, 0, 159, 27, 155, 0, 8, 27, 4, 164, 0, 9, 42, 4, 182, 1, 51, 172, 3, 61, 2, 62]
abbrev dktX7_whom_0 : List UInt8 := dkwX7_whom_0 ++ dktX7_whom_1
theorem dksX7_whom_0 : cX7_whom.data.toList.drop 0 = dktX7_whom_0 := by decide +kernel
theorem dksX7_whom_1 : cX7_whom.data.toList.drop 24 = dktX7_whom_1 := dk_seg dksX7_whom_0 24 rfl rfl
theorem dksX7_whom_2 : cX7_whom.data.toList.drop 47 = dktX7_whom_2 := dk_seg dksX7_whom_1 23 rfl rfl
theorem dksX7_whom_3 : cX7_whom.data.toList.drop 71 = dktX7_whom_3 := dk_seg dksX7_whom_2 24 rfl rfl
theorem dksX7_whom_4 : cX7_whom.data.toList.drop 95 = dktX7_whom_4 := dk_seg dksX7_whom_3 24 rfl rfl
theorem dksX7_whom_5 : cX7_whom.data.toList.drop 119 = dktX7_whom_5 := dk_seg dksX7_whom_4 24 rfl rfl
theorem dksX7_whom_6 : cX7_whom.data.toList.drop 143 = dktX7_whom_6 := dk_seg dksX7_whom_5 24 rfl rfl
theorem dksX7_whom_7 : cX7_whom.data.toList.drop 167 = dktX7_whom_7 := dk_seg dksX7_whom_6 24 rfl rfl
theorem dX7_whom_0 : decode cX7_whom 0 = .ok (.aload_n 0, 1) := dk_42 (dk_at dksX7_whom_0 0 rfl rfl)
theorem dX7_whom_1 : decode cX7_whom 1 = .ok (.iconst 0, 1) := dk_3 (dk_at dksX7_whom_0 1 rfl rfl)
theorem dX7_whom_2 : decode cX7_whom 2 = .ok (.putfield 159, 3) := dk_181 0 159 (dk_at dksX7_whom_0 2 rfl rfl)
theorem dX7_whom_5 : decode cX7_whom 5 = .ok (.iload_n 1, 1) := dk_27 (dk_at dksX7_whom_0 5 rfl rfl)
theorem dX7_whom_6 : decode cX7_whom 6 = .ok (.ifCond .lt 8, 3) := dk_155 0 8 (dk_at dksX7_whom_0 6 rfl rfl)
theorem dX7_whom_9 : decode cX7_whom 9 = .ok (.iload_n 1, 1) := dk_27 (dk_at dksX7_whom_0 9 rfl rfl)
theorem dX7_whom_10 : decode cX7_whom 10 = .ok (.iconst 1, 1) := dk_4 (dk_at dksX7_whom_0 10 rfl rfl)
theorem dX7_whom_11 : decode cX7_whom 11 = .ok (.if_icmp .le 9, 3) := dk_164 0 9 (dk_at dksX7_whom_0 11 rfl rfl)
theorem dX7_whom_14 : decode cX7_whom 14 = .ok (.aload_n 0, 1) := dk_42 (dk_at dksX7_whom_0 14 rfl rfl)
theorem dX7_whom_15 : decode cX7_whom 15 = .ok (.iconst 1, 1) := dk_4 (dk_at dksX7_whom_0 15 rfl rfl)
theorem dX7_whom_16 : decode cX7_whom 16 = .ok (.invokevirtual 307, 3) := dk_182 1 51 (dk_at dksX7_whom_0 16 rfl rfl)
theorem dX7_whom_19 : decode cX7_whom 19 = .ok (.ireturn, 1) := dk_172 (dk_at dksX7_whom_0 19 rfl rfl)
theorem dX7_whom_20 : decode cX7_whom 20 = .ok (.iconst 0, 1) := dk_3 (dk_at dksX7_whom_0 20 rfl rfl)
theorem dX7_whom_21 : decode cX7_whom 21 = .ok (.istore_n 2, 1) := dk_61 (dk_at dksX7_whom_0 21 rfl rfl)
theorem dX7_whom_22 : decode cX7_whom 22 = .ok (.iconst (-1), 1) := dk_2 (dk_at dksX7_whom_0 22 rfl rfl)
theorem dX7_whom_23 : decode cX7_whom 23 = .ok (.istore_n 3, 1) := dk_62 (dk_at dksX7_whom_0 23 rfl rfl)
theorem dX7_whom_24 : decode cX7_whom 24 = .ok (.iconst 0, 1) := dk_3 (dk_at dksX7_whom_1 0 rfl rfl)
theorem dX7_whom_25 : decode cX7_whom 25 = .ok (.istore 4, 2) := dk_54 4 (dk_at dksX7_whom_1 1 rfl rfl)
theorem dX7_whom_27 : decode cX7_whom 27 = .ok (.iload 4, 2) := dk_21 4 (dk_at dksX7_whom_1 3 rfl rfl)
theorem dX7_whom_29 : decode cX7_whom 29 = .ok (.aload_n 0, 1) := dk_42 (dk_at dksX7_whom_1 5 rfl rfl)
theorem dX7_whom_30 : decode cX7_whom 30 = .ok (.getfield 38, 3) := dk_180 0 38 (dk_at dksX7_whom_1 6 rfl rfl)
theorem dX7_whom_33 : decode cX7_whom 33 = .ok (.iconst 0, 1) := dk_3 (dk_at dksX7_whom_1 9 rfl rfl)
theorem dX7_whom_34 : decode cX7_whom 34 = .ok (.iaload, 1) := dk_46 (dk_at dksX7_whom_1 10 rfl rfl)
theorem dX7_whom_35 : decode cX7_whom 35 = .ok (.if_icmp .ge 128, 3) := dk_162 0 128 (dk_at dksX7_whom_1 11 rfl rfl)
theorem dX7_whom_38 : decode cX7_whom 38 = .ok (.iload 4, 2) := dk_21 4 (dk_at dksX7_whom_1 14 rfl rfl)
theorem dX7_whom_40 : decode cX7_whom 40 = .ok (.iconst 1, 1) := dk_4 (dk_at dksX7_whom_1 16 rfl rfl)
theorem dX7_whom_41 : decode cX7_whom 41 = .ok (.iadd, 1) := dk_96 (dk_at dksX7_whom_1 17 rfl rfl)
theorem dX7_whom_42 : decode cX7_whom 42 = .ok (.istore 5, 2) := dk_54 5 (dk_at dksX7_whom_1 18 rfl rfl)
theorem dX7_whom_44 : decode cX7_whom 44 = .ok (.iload 5, 2) := dk_21 5 (dk_at dksX7_whom_1 20 rfl rfl)
theorem dX7_whom_46 : decode cX7_whom 46 = .ok (.aload_n 0, 1) := dk_42 (dk_at dksX7_whom_1 22 rfl rfl)
theorem dX7_whom_47 : decode cX7_whom 47 = .ok (.getfield 38, 3) := dk_180 0 38 (dk_at dksX7_whom_2 0 rfl rfl)
theorem dX7_whom_50 : decode cX7_whom 50 = .ok (.iconst 0, 1) := dk_3 (dk_at dksX7_whom_2 3 rfl rfl)
theorem dX7_whom_51 : decode cX7_whom 51 = .ok (.iaload, 1) := dk_46 (dk_at dksX7_whom_2 4 rfl rfl)
theorem dX7_whom_52 : decode cX7_whom 52 = .ok (.if_icmp .ge 105, 3) := dk_162 0 105 (dk_at dksX7_whom_2 5 rfl rfl)
theorem dX7_whom_55 : decode cX7_whom 55 = .ok (.aload_n 0, 1) := dk_42 (dk_at dksX7_whom_2 8 rfl rfl)
theorem dX7_whom_56 : decode cX7_whom 56 = .ok (.iload 4, 2) := dk_21 4 (dk_at dksX7_whom_2 9 rfl rfl)
theorem dX7_whom_58 : decode cX7_whom 58 = .ok (.iload 5, 2) := dk_21 5 (dk_at dksX7_whom_2 11 rfl rfl)
theorem dX7_whom_60 : decode cX7_whom 60 = .ok (.invokevirtual 349, 3) := dk_182 1 93 (dk_at dksX7_whom_2 13 rfl rfl)
theorem dX7_whom_63 : decode cX7_whom 63 = .ok (.ifCond .eq 17, 3) := dk_153 0 17 (dk_at dksX7_whom_2 16 rfl rfl)
theorem dX7_whom_66 : decode cX7_whom 66 = .ok (.aload_n 0, 1) := dk_42 (dk_at dksX7_whom_2 19 rfl rfl)
theorem dX7_whom_67 : decode cX7_whom 67 = .ok (.iload 5, 2) := dk_21 5 (dk_at dksX7_whom_2 20 rfl rfl)
theorem dX7_whom_69 : decode cX7_whom 69 = .ok (.iload 4, 2) := dk_21 4 (dk_at dksX7_whom_2 22 rfl rfl)
theorem dX7_whom_71 : decode cX7_whom 71 = .ok (.invokevirtual 349, 3) := dk_182 1 93 (dk_at dksX7_whom_3 0 rfl rfl)
theorem dX7_whom_74 : decode cX7_whom 74 = .ok (.ifCond .eq 6, 3) := dk_153 0 6 (dk_at dksX7_whom_3 3 rfl rfl)
theorem dX7_whom_77 : decode cX7_whom 77 = .ok (.goto 74, 3) := dk_167 0 74 (dk_at dksX7_whom_3 6 rfl rfl)
theorem dX7_whom_80 : decode cX7_whom 80 = .ok (.aload_n 0, 1) := dk_42 (dk_at dksX7_whom_3 9 rfl rfl)
theorem dX7_whom_81 : decode cX7_whom 81 = .ok (.getfield 67, 3) := dk_180 0 67 (dk_at dksX7_whom_3 10 rfl rfl)
theorem dX7_whom_84 : decode cX7_whom 84 = .ok (.iload 4, 2) := dk_21 4 (dk_at dksX7_whom_3 13 rfl rfl)
theorem dX7_whom_86 : decode cX7_whom 86 = .ok (.iload 5, 2) := dk_21 5 (dk_at dksX7_whom_3 15 rfl rfl)
theorem dX7_whom_88 : decode cX7_whom 88 = .ok (.invokestatic 282, 3) := dk_184 1 26 (dk_at dksX7_whom_3 17 rfl rfl)
theorem dX7_whom_91 : decode cX7_whom 91 = .ok (.iaload, 1) := dk_46 (dk_at dksX7_whom_3 20 rfl rfl)
theorem dX7_whom_92 : decode cX7_whom 92 = .ok (.istore 6, 2) := dk_54 6 (dk_at dksX7_whom_3 21 rfl rfl)
theorem dX7_whom_94 : decode cX7_whom 94 = .ok (.aload_n 0, 1) := dk_42 (dk_at dksX7_whom_3 23 rfl rfl)
theorem dX7_whom_95 : decode cX7_whom 95 = .ok (.iload 4, 2) := dk_21 4 (dk_at dksX7_whom_4 0 rfl rfl)
theorem dX7_whom_97 : decode cX7_whom 97 = .ok (.iload 5, 2) := dk_21 5 (dk_at dksX7_whom_4 2 rfl rfl)
theorem dX7_whom_99 : decode cX7_whom 99 = .ok (.aload_n 0, 1) := dk_42 (dk_at dksX7_whom_4 4 rfl rfl)
theorem dX7_whom_100 : decode cX7_whom 100 = .ok (.getfield 321, 3) := dk_180 1 65 (dk_at dksX7_whom_4 5 rfl rfl)
theorem dX7_whom_103 : decode cX7_whom 103 = .ok (.invokevirtual 417, 3) := dk_182 1 161 (dk_at dksX7_whom_4 8 rfl rfl)
theorem dX7_whom_106 : decode cX7_whom 106 = .ok (.aload_n 0, 1) := dk_42 (dk_at dksX7_whom_4 11 rfl rfl)
theorem dX7_whom_107 : decode cX7_whom 107 = .ok (.invokevirtual 474, 3) := dk_182 1 218 (dk_at dksX7_whom_4 12 rfl rfl)
theorem dX7_whom_110 : decode cX7_whom 110 = .ok (.istore 7, 2) := dk_54 7 (dk_at dksX7_whom_4 15 rfl rfl)
theorem dX7_whom_112 : decode cX7_whom 112 = .ok (.aload_n 0, 1) := dk_42 (dk_at dksX7_whom_4 17 rfl rfl)
theorem dX7_whom_113 : decode cX7_whom 113 = .ok (.iload 4, 2) := dk_21 4 (dk_at dksX7_whom_4 18 rfl rfl)
theorem dX7_whom_115 : decode cX7_whom 115 = .ok (.iload 5, 2) := dk_21 5 (dk_at dksX7_whom_4 20 rfl rfl)
theorem dX7_whom_117 : decode cX7_whom 117 = .ok (.iload 6, 2) := dk_21 6 (dk_at dksX7_whom_4 22 rfl rfl)
theorem dX7_whom_119 : decode cX7_whom 119 = .ok (.invokevirtual 417, 3) := dk_182 1 161 (dk_at dksX7_whom_5 0 rfl rfl)
theorem dX7_whom_122 : decode cX7_whom 122 = .ok (.iload 7, 2) := dk_21 7 (dk_at dksX7_whom_5 3 rfl rfl)
theorem dX7_whom_124 : decode cX7_whom 124 = .ok (.ifCond .ne 6, 3) := dk_154 0 6 (dk_at dksX7_whom_5 5 rfl rfl)
theorem dX7_whom_127 : decode cX7_whom 127 = .ok (.goto 24, 3) := dk_167 0 24 (dk_at dksX7_whom_5 8 rfl rfl)
theorem dX7_whom_130 : decode cX7_whom 130 = .ok (.iinc 2 1, 3) := dk_132 2 1 (dk_at dksX7_whom_5 11 rfl rfl)
theorem dX7_whom_133 : decode cX7_whom 133 = .ok (.iload_n 3, 1) := dk_29 (dk_at dksX7_whom_5 14 rfl rfl)
theorem dX7_whom_134 : decode cX7_whom 134 = .ok (.iconst (-1), 1) := dk_2 (dk_at dksX7_whom_5 15 rfl rfl)
theorem dX7_whom_135 : decode cX7_whom 135 = .ok (.if_icmp .ne 14, 3) := dk_160 0 14 (dk_at dksX7_whom_5 16 rfl rfl)
theorem dX7_whom_138 : decode cX7_whom 138 = .ok (.bipush 10, 2) := dk_16 10 (dk_at dksX7_whom_5 19 rfl rfl)
theorem dX7_whom_140 : decode cX7_whom 140 = .ok (.iload 4, 2) := dk_21 4 (dk_at dksX7_whom_5 21 rfl rfl)
theorem dX7_whom_142 : decode cX7_whom 142 = .ok (.imul, 1) := dk_104 (dk_at dksX7_whom_5 23 rfl rfl)
theorem dX7_whom_143 : decode cX7_whom 143 = .ok (.iload 5, 2) := dk_21 5 (dk_at dksX7_whom_6 0 rfl rfl)
theorem dX7_whom_145 : decode cX7_whom 145 = .ok (.iadd, 1) := dk_96 (dk_at dksX7_whom_6 2 rfl rfl)
theorem dX7_whom_146 : decode cX7_whom 146 = .ok (.goto 4, 3) := dk_167 0 4 (dk_at dksX7_whom_6 3 rfl rfl)
theorem dX7_whom_149 : decode cX7_whom 149 = .ok (.iload_n 3, 1) := dk_29 (dk_at dksX7_whom_6 6 rfl rfl)
theorem dX7_whom_150 : decode cX7_whom 150 = .ok (.istore_n 3, 1) := dk_62 (dk_at dksX7_whom_6 7 rfl rfl)
theorem dX7_whom_151 : decode cX7_whom 151 = .ok (.iinc 5 1, 3) := dk_132 5 1 (dk_at dksX7_whom_6 8 rfl rfl)
theorem dX7_whom_154 : decode cX7_whom 154 = .ok (.goto (-110), 3) := dk_167 255 146 (dk_at dksX7_whom_6 11 rfl rfl)
theorem dX7_whom_157 : decode cX7_whom 157 = .ok (.iinc 4 1, 3) := dk_132 4 1 (dk_at dksX7_whom_6 14 rfl rfl)
theorem dX7_whom_160 : decode cX7_whom 160 = .ok (.goto (-133), 3) := dk_167 255 123 (dk_at dksX7_whom_6 17 rfl rfl)
theorem dX7_whom_163 : decode cX7_whom 163 = .ok (.iload_n 1, 1) := dk_27 (dk_at dksX7_whom_6 20 rfl rfl)
theorem dX7_whom_164 : decode cX7_whom 164 = .ok (.ifCond .ne 7, 3) := dk_154 0 7 (dk_at dksX7_whom_6 21 rfl rfl)
theorem dX7_whom_167 : decode cX7_whom 167 = .ok (.iload_n 2, 1) := dk_28 (dk_at dksX7_whom_7 0 rfl rfl)
theorem dX7_whom_168 : decode cX7_whom 168 = .ok (.goto 4, 3) := dk_167 0 4 (dk_at dksX7_whom_7 1 rfl rfl)
theorem dX7_whom_171 : decode cX7_whom 171 = .ok (.iload_n 3, 1) := dk_29 (dk_at dksX7_whom_7 4 rfl rfl)
theorem dX7_whom_172 : decode cX7_whom 172 = .ok (.ireturn, 1) := dk_172 (dk_at dksX7_whom_7 5 rfl rfl)
abbrev cX7_isBalked : ByteArray := prog_21_method_92_code
def yX7_isBalked : MethodName := ⟨RX7, "isBalked", "()Z"⟩
def dkwX7_isBalked_1 : List UInt8 := [182, 1, 102, 154, 0, 5, 3, 172, 132, 1, 1, 167, 255, 224, 4, 172]
abbrev dktX7_isBalked_1 : List UInt8 := dkwX7_isBalked_1 ++ []
def dkwX7_isBalked_0 : List UInt8 := [3, 60, 27, 42, 180, 1, 77, 162, 0, 30, 42, 42, 180, 0, 129, 27, 46, 42, 180, 0, 132, 27, 46]
abbrev dktX7_isBalked_0 : List UInt8 := dkwX7_isBalked_0 ++ dktX7_isBalked_1
theorem dksX7_isBalked_0 : cX7_isBalked.data.toList.drop 0 = dktX7_isBalked_0 := by decide +kernel
theorem dksX7_isBalked_1 : cX7_isBalked.data.toList.drop 23 = dktX7_isBalked_1 := dk_seg dksX7_isBalked_0 23 rfl rfl
theorem dX7_isBalked_0 : decode cX7_isBalked 0 = .ok (.iconst 0, 1) := dk_3 (dk_at dksX7_isBalked_0 0 rfl rfl)
theorem dX7_isBalked_1 : decode cX7_isBalked 1 = .ok (.istore_n 1, 1) := dk_60 (dk_at dksX7_isBalked_0 1 rfl rfl)
theorem dX7_isBalked_2 : decode cX7_isBalked 2 = .ok (.iload_n 1, 1) := dk_27 (dk_at dksX7_isBalked_0 2 rfl rfl)
theorem dX7_isBalked_3 : decode cX7_isBalked 3 = .ok (.aload_n 0, 1) := dk_42 (dk_at dksX7_isBalked_0 3 rfl rfl)
theorem dX7_isBalked_4 : decode cX7_isBalked 4 = .ok (.getfield 333, 3) := dk_180 1 77 (dk_at dksX7_isBalked_0 4 rfl rfl)
theorem dX7_isBalked_7 : decode cX7_isBalked 7 = .ok (.if_icmp .ge 30, 3) := dk_162 0 30 (dk_at dksX7_isBalked_0 7 rfl rfl)
theorem dX7_isBalked_10 : decode cX7_isBalked 10 = .ok (.aload_n 0, 1) := dk_42 (dk_at dksX7_isBalked_0 10 rfl rfl)
theorem dX7_isBalked_11 : decode cX7_isBalked 11 = .ok (.aload_n 0, 1) := dk_42 (dk_at dksX7_isBalked_0 11 rfl rfl)
theorem dX7_isBalked_12 : decode cX7_isBalked 12 = .ok (.getfield 129, 3) := dk_180 0 129 (dk_at dksX7_isBalked_0 12 rfl rfl)
theorem dX7_isBalked_15 : decode cX7_isBalked 15 = .ok (.iload_n 1, 1) := dk_27 (dk_at dksX7_isBalked_0 15 rfl rfl)
theorem dX7_isBalked_16 : decode cX7_isBalked 16 = .ok (.iaload, 1) := dk_46 (dk_at dksX7_isBalked_0 16 rfl rfl)
theorem dX7_isBalked_17 : decode cX7_isBalked 17 = .ok (.aload_n 0, 1) := dk_42 (dk_at dksX7_isBalked_0 17 rfl rfl)
theorem dX7_isBalked_18 : decode cX7_isBalked 18 = .ok (.getfield 132, 3) := dk_180 0 132 (dk_at dksX7_isBalked_0 18 rfl rfl)
theorem dX7_isBalked_21 : decode cX7_isBalked 21 = .ok (.iload_n 1, 1) := dk_27 (dk_at dksX7_isBalked_0 21 rfl rfl)
theorem dX7_isBalked_22 : decode cX7_isBalked 22 = .ok (.iaload, 1) := dk_46 (dk_at dksX7_isBalked_0 22 rfl rfl)
theorem dX7_isBalked_23 : decode cX7_isBalked 23 = .ok (.invokevirtual 358, 3) := dk_182 1 102 (dk_at dksX7_isBalked_1 0 rfl rfl)
theorem dX7_isBalked_26 : decode cX7_isBalked 26 = .ok (.ifCond .ne 5, 3) := dk_154 0 5 (dk_at dksX7_isBalked_1 3 rfl rfl)
theorem dX7_isBalked_29 : decode cX7_isBalked 29 = .ok (.iconst 0, 1) := dk_3 (dk_at dksX7_isBalked_1 6 rfl rfl)
theorem dX7_isBalked_30 : decode cX7_isBalked 30 = .ok (.ireturn, 1) := dk_172 (dk_at dksX7_isBalked_1 7 rfl rfl)
theorem dX7_isBalked_31 : decode cX7_isBalked 31 = .ok (.iinc 1 1, 3) := dk_132 1 1 (dk_at dksX7_isBalked_1 8 rfl rfl)
theorem dX7_isBalked_34 : decode cX7_isBalked 34 = .ok (.goto (-32), 3) := dk_167 255 224 (dk_at dksX7_isBalked_1 11 rfl rfl)
theorem dX7_isBalked_37 : decode cX7_isBalked 37 = .ok (.iconst 1, 1) := dk_4 (dk_at dksX7_isBalked_1 14 rfl rfl)
theorem dX7_isBalked_38 : decode cX7_isBalked 38 = .ok (.ireturn, 1) := dk_172 (dk_at dksX7_isBalked_1 15 rfl rfl)
abbrev cX7_why : ByteArray := prog_21_method_94_code
def yX7_why : MethodName := ⟨RX7, "why", "(II)I"⟩
def dkwX7_why_1 : List UInt8 := [153, 0, 12, 42, 27, 28, 182, 1, 139, 167, 0, 8, 42, 4, 182, 1, 51, 172]
abbrev dktX7_why_1 : List UInt8 := dkwX7_why_1 ++ []
def dkwX7_why_0 : List UInt8 := [42, 3, 181, 0, 159, 42, 27, 182, 1, 136, 153, 0, 24, 28, 133, 9, 20, 1, 222, 184, 0, 162]
abbrev dktX7_why_0 : List UInt8 := dkwX7_why_0 ++ dktX7_why_1
theorem dksX7_why_0 : cX7_why.data.toList.drop 0 = dktX7_why_0 := by decide +kernel
theorem dksX7_why_1 : cX7_why.data.toList.drop 22 = dktX7_why_1 := dk_seg dksX7_why_0 22 rfl rfl
theorem dX7_why_0 : decode cX7_why 0 = .ok (.aload_n 0, 1) := dk_42 (dk_at dksX7_why_0 0 rfl rfl)
theorem dX7_why_1 : decode cX7_why 1 = .ok (.iconst 0, 1) := dk_3 (dk_at dksX7_why_0 1 rfl rfl)
theorem dX7_why_2 : decode cX7_why 2 = .ok (.putfield 159, 3) := dk_181 0 159 (dk_at dksX7_why_0 2 rfl rfl)
theorem dX7_why_5 : decode cX7_why 5 = .ok (.aload_n 0, 1) := dk_42 (dk_at dksX7_why_0 5 rfl rfl)
theorem dX7_why_6 : decode cX7_why 6 = .ok (.iload_n 1, 1) := dk_27 (dk_at dksX7_why_0 6 rfl rfl)
theorem dX7_why_7 : decode cX7_why 7 = .ok (.invokevirtual 392, 3) := dk_182 1 136 (dk_at dksX7_why_0 7 rfl rfl)
theorem dX7_why_10 : decode cX7_why 10 = .ok (.ifCond .eq 24, 3) := dk_153 0 24 (dk_at dksX7_why_0 10 rfl rfl)
theorem dX7_why_13 : decode cX7_why 13 = .ok (.iload_n 2, 1) := dk_28 (dk_at dksX7_why_0 13 rfl rfl)
theorem dX7_why_14 : decode cX7_why 14 = .ok (.i2l, 1) := dk_133 (dk_at dksX7_why_0 14 rfl rfl)
theorem dX7_why_15 : decode cX7_why 15 = .ok (.lconst 0, 1) := dk_9 (dk_at dksX7_why_0 15 rfl rfl)
theorem dX7_why_16 : decode cX7_why 16 = .ok (.ldc2_w 478, 3) := dk_20 1 222 (dk_at dksX7_why_0 16 rfl rfl)
theorem dX7_why_19 : decode cX7_why 19 = .ok (.invokestatic 162, 3) := dk_184 0 162 (dk_at dksX7_why_0 19 rfl rfl)
theorem dX7_why_22 : decode cX7_why 22 = .ok (.ifCond .eq 12, 3) := dk_153 0 12 (dk_at dksX7_why_1 0 rfl rfl)
theorem dX7_why_25 : decode cX7_why 25 = .ok (.aload_n 0, 1) := dk_42 (dk_at dksX7_why_1 3 rfl rfl)
theorem dX7_why_26 : decode cX7_why 26 = .ok (.iload_n 1, 1) := dk_27 (dk_at dksX7_why_1 4 rfl rfl)
theorem dX7_why_27 : decode cX7_why 27 = .ok (.iload_n 2, 1) := dk_28 (dk_at dksX7_why_1 5 rfl rfl)
theorem dX7_why_28 : decode cX7_why 28 = .ok (.invokevirtual 395, 3) := dk_182 1 139 (dk_at dksX7_why_1 6 rfl rfl)
theorem dX7_why_31 : decode cX7_why 31 = .ok (.goto 8, 3) := dk_167 0 8 (dk_at dksX7_why_1 9 rfl rfl)
theorem dX7_why_34 : decode cX7_why 34 = .ok (.aload_n 0, 1) := dk_42 (dk_at dksX7_why_1 12 rfl rfl)
theorem dX7_why_35 : decode cX7_why 35 = .ok (.iconst 1, 1) := dk_4 (dk_at dksX7_why_1 13 rfl rfl)
theorem dX7_why_36 : decode cX7_why 36 = .ok (.invokevirtual 307, 3) := dk_182 1 51 (dk_at dksX7_why_1 14 rfl rfl)
theorem dX7_why_39 : decode cX7_why 39 = .ok (.ireturn, 1) := dk_172 (dk_at dksX7_why_1 17 rfl rfl)
abbrev cX7_fairest : ByteArray := prog_21_method_96_code
def yX7_fairest : MethodName := ⟨RX7, "fairest", "(II)I"⟩
def dkwX7_fairest_4 : List UInt8 := [167, 0, 10, 21, 5, 62, 21, 6, 54, 4, 132, 5, 1, 167, 255, 197, 29, 172]
abbrev dktX7_fairest_4 : List UInt8 := dkwX7_fairest_4 ++ []
def dkwX7_fairest_3 : List UInt8 := [42, 21, 5, 27, 28, 182, 1, 224, 54, 6, 29, 2, 159, 0, 13, 21, 6, 21, 4, 163, 0, 6]
abbrev dktX7_fairest_3 : List UInt8 := dkwX7_fairest_3 ++ dktX7_fairest_4
def dkwX7_fairest_2 : List UInt8 := [21, 5, 42, 180, 0, 38, 3, 46, 162, 0, 54, 42, 21, 5, 27, 182, 1, 108, 154, 0, 6, 167, 0, 35]
abbrev dktX7_fairest_2 : List UInt8 := dkwX7_fairest_2 ++ dktX7_fairest_3
def dkwX7_fairest_1 : List UInt8 := [4, 100, 133, 184, 0, 162, 154, 0, 9, 42, 4, 182, 1, 51, 172, 2, 62, 3, 54, 4, 3, 54, 5]
abbrev dktX7_fairest_1 : List UInt8 := dkwX7_fairest_1 ++ dktX7_fairest_2
def dkwX7_fairest_0 : List UInt8 := [42, 3, 181, 0, 159, 42, 27, 182, 1, 136, 153, 0, 23, 28, 133, 20, 1, 145, 42, 180, 0, 61, 27, 46]
abbrev dktX7_fairest_0 : List UInt8 := dkwX7_fairest_0 ++ dktX7_fairest_1
theorem dksX7_fairest_0 : cX7_fairest.data.toList.drop 0 = dktX7_fairest_0 := by decide +kernel
theorem dksX7_fairest_1 : cX7_fairest.data.toList.drop 24 = dktX7_fairest_1 := dk_seg dksX7_fairest_0 24 rfl rfl
theorem dksX7_fairest_2 : cX7_fairest.data.toList.drop 47 = dktX7_fairest_2 := dk_seg dksX7_fairest_1 23 rfl rfl
theorem dksX7_fairest_3 : cX7_fairest.data.toList.drop 71 = dktX7_fairest_3 := dk_seg dksX7_fairest_2 24 rfl rfl
theorem dksX7_fairest_4 : cX7_fairest.data.toList.drop 93 = dktX7_fairest_4 := dk_seg dksX7_fairest_3 22 rfl rfl
theorem dX7_fairest_0 : decode cX7_fairest 0 = .ok (.aload_n 0, 1) := dk_42 (dk_at dksX7_fairest_0 0 rfl rfl)
theorem dX7_fairest_1 : decode cX7_fairest 1 = .ok (.iconst 0, 1) := dk_3 (dk_at dksX7_fairest_0 1 rfl rfl)
theorem dX7_fairest_2 : decode cX7_fairest 2 = .ok (.putfield 159, 3) := dk_181 0 159 (dk_at dksX7_fairest_0 2 rfl rfl)
theorem dX7_fairest_5 : decode cX7_fairest 5 = .ok (.aload_n 0, 1) := dk_42 (dk_at dksX7_fairest_0 5 rfl rfl)
theorem dX7_fairest_6 : decode cX7_fairest 6 = .ok (.iload_n 1, 1) := dk_27 (dk_at dksX7_fairest_0 6 rfl rfl)
theorem dX7_fairest_7 : decode cX7_fairest 7 = .ok (.invokevirtual 392, 3) := dk_182 1 136 (dk_at dksX7_fairest_0 7 rfl rfl)
theorem dX7_fairest_10 : decode cX7_fairest 10 = .ok (.ifCond .eq 23, 3) := dk_153 0 23 (dk_at dksX7_fairest_0 10 rfl rfl)
theorem dX7_fairest_13 : decode cX7_fairest 13 = .ok (.iload_n 2, 1) := dk_28 (dk_at dksX7_fairest_0 13 rfl rfl)
theorem dX7_fairest_14 : decode cX7_fairest 14 = .ok (.i2l, 1) := dk_133 (dk_at dksX7_fairest_0 14 rfl rfl)
theorem dX7_fairest_15 : decode cX7_fairest 15 = .ok (.ldc2_w 401, 3) := dk_20 1 145 (dk_at dksX7_fairest_0 15 rfl rfl)
theorem dX7_fairest_18 : decode cX7_fairest 18 = .ok (.aload_n 0, 1) := dk_42 (dk_at dksX7_fairest_0 18 rfl rfl)
theorem dX7_fairest_19 : decode cX7_fairest 19 = .ok (.getfield 61, 3) := dk_180 0 61 (dk_at dksX7_fairest_0 19 rfl rfl)
theorem dX7_fairest_22 : decode cX7_fairest 22 = .ok (.iload_n 1, 1) := dk_27 (dk_at dksX7_fairest_0 22 rfl rfl)
theorem dX7_fairest_23 : decode cX7_fairest 23 = .ok (.iaload, 1) := dk_46 (dk_at dksX7_fairest_0 23 rfl rfl)
theorem dX7_fairest_24 : decode cX7_fairest 24 = .ok (.iconst 1, 1) := dk_4 (dk_at dksX7_fairest_1 0 rfl rfl)
theorem dX7_fairest_25 : decode cX7_fairest 25 = .ok (.isub, 1) := dk_100 (dk_at dksX7_fairest_1 1 rfl rfl)
theorem dX7_fairest_26 : decode cX7_fairest 26 = .ok (.i2l, 1) := dk_133 (dk_at dksX7_fairest_1 2 rfl rfl)
theorem dX7_fairest_27 : decode cX7_fairest 27 = .ok (.invokestatic 162, 3) := dk_184 0 162 (dk_at dksX7_fairest_1 3 rfl rfl)
theorem dX7_fairest_30 : decode cX7_fairest 30 = .ok (.ifCond .ne 9, 3) := dk_154 0 9 (dk_at dksX7_fairest_1 6 rfl rfl)
theorem dX7_fairest_33 : decode cX7_fairest 33 = .ok (.aload_n 0, 1) := dk_42 (dk_at dksX7_fairest_1 9 rfl rfl)
theorem dX7_fairest_34 : decode cX7_fairest 34 = .ok (.iconst 1, 1) := dk_4 (dk_at dksX7_fairest_1 10 rfl rfl)
theorem dX7_fairest_35 : decode cX7_fairest 35 = .ok (.invokevirtual 307, 3) := dk_182 1 51 (dk_at dksX7_fairest_1 11 rfl rfl)
theorem dX7_fairest_38 : decode cX7_fairest 38 = .ok (.ireturn, 1) := dk_172 (dk_at dksX7_fairest_1 14 rfl rfl)
theorem dX7_fairest_39 : decode cX7_fairest 39 = .ok (.iconst (-1), 1) := dk_2 (dk_at dksX7_fairest_1 15 rfl rfl)
theorem dX7_fairest_40 : decode cX7_fairest 40 = .ok (.istore_n 3, 1) := dk_62 (dk_at dksX7_fairest_1 16 rfl rfl)
theorem dX7_fairest_41 : decode cX7_fairest 41 = .ok (.iconst 0, 1) := dk_3 (dk_at dksX7_fairest_1 17 rfl rfl)
theorem dX7_fairest_42 : decode cX7_fairest 42 = .ok (.istore 4, 2) := dk_54 4 (dk_at dksX7_fairest_1 18 rfl rfl)
theorem dX7_fairest_44 : decode cX7_fairest 44 = .ok (.iconst 0, 1) := dk_3 (dk_at dksX7_fairest_1 20 rfl rfl)
theorem dX7_fairest_45 : decode cX7_fairest 45 = .ok (.istore 5, 2) := dk_54 5 (dk_at dksX7_fairest_1 21 rfl rfl)
theorem dX7_fairest_47 : decode cX7_fairest 47 = .ok (.iload 5, 2) := dk_21 5 (dk_at dksX7_fairest_2 0 rfl rfl)
theorem dX7_fairest_49 : decode cX7_fairest 49 = .ok (.aload_n 0, 1) := dk_42 (dk_at dksX7_fairest_2 2 rfl rfl)
theorem dX7_fairest_50 : decode cX7_fairest 50 = .ok (.getfield 38, 3) := dk_180 0 38 (dk_at dksX7_fairest_2 3 rfl rfl)
theorem dX7_fairest_53 : decode cX7_fairest 53 = .ok (.iconst 0, 1) := dk_3 (dk_at dksX7_fairest_2 6 rfl rfl)
theorem dX7_fairest_54 : decode cX7_fairest 54 = .ok (.iaload, 1) := dk_46 (dk_at dksX7_fairest_2 7 rfl rfl)
theorem dX7_fairest_55 : decode cX7_fairest 55 = .ok (.if_icmp .ge 54, 3) := dk_162 0 54 (dk_at dksX7_fairest_2 8 rfl rfl)
theorem dX7_fairest_58 : decode cX7_fairest 58 = .ok (.aload_n 0, 1) := dk_42 (dk_at dksX7_fairest_2 11 rfl rfl)
theorem dX7_fairest_59 : decode cX7_fairest 59 = .ok (.iload 5, 2) := dk_21 5 (dk_at dksX7_fairest_2 12 rfl rfl)
theorem dX7_fairest_61 : decode cX7_fairest 61 = .ok (.iload_n 1, 1) := dk_27 (dk_at dksX7_fairest_2 14 rfl rfl)
theorem dX7_fairest_62 : decode cX7_fairest 62 = .ok (.invokevirtual 364, 3) := dk_182 1 108 (dk_at dksX7_fairest_2 15 rfl rfl)
theorem dX7_fairest_65 : decode cX7_fairest 65 = .ok (.ifCond .ne 6, 3) := dk_154 0 6 (dk_at dksX7_fairest_2 18 rfl rfl)
theorem dX7_fairest_68 : decode cX7_fairest 68 = .ok (.goto 35, 3) := dk_167 0 35 (dk_at dksX7_fairest_2 21 rfl rfl)
theorem dX7_fairest_71 : decode cX7_fairest 71 = .ok (.aload_n 0, 1) := dk_42 (dk_at dksX7_fairest_3 0 rfl rfl)
theorem dX7_fairest_72 : decode cX7_fairest 72 = .ok (.iload 5, 2) := dk_21 5 (dk_at dksX7_fairest_3 1 rfl rfl)
theorem dX7_fairest_74 : decode cX7_fairest 74 = .ok (.iload_n 1, 1) := dk_27 (dk_at dksX7_fairest_3 3 rfl rfl)
theorem dX7_fairest_75 : decode cX7_fairest 75 = .ok (.iload_n 2, 1) := dk_28 (dk_at dksX7_fairest_3 4 rfl rfl)
theorem dX7_fairest_76 : decode cX7_fairest 76 = .ok (.invokevirtual 480, 3) := dk_182 1 224 (dk_at dksX7_fairest_3 5 rfl rfl)
theorem dX7_fairest_79 : decode cX7_fairest 79 = .ok (.istore 6, 2) := dk_54 6 (dk_at dksX7_fairest_3 8 rfl rfl)
theorem dX7_fairest_81 : decode cX7_fairest 81 = .ok (.iload_n 3, 1) := dk_29 (dk_at dksX7_fairest_3 10 rfl rfl)
theorem dX7_fairest_82 : decode cX7_fairest 82 = .ok (.iconst (-1), 1) := dk_2 (dk_at dksX7_fairest_3 11 rfl rfl)
theorem dX7_fairest_83 : decode cX7_fairest 83 = .ok (.if_icmp .eq 13, 3) := dk_159 0 13 (dk_at dksX7_fairest_3 12 rfl rfl)
theorem dX7_fairest_86 : decode cX7_fairest 86 = .ok (.iload 6, 2) := dk_21 6 (dk_at dksX7_fairest_3 15 rfl rfl)
theorem dX7_fairest_88 : decode cX7_fairest 88 = .ok (.iload 4, 2) := dk_21 4 (dk_at dksX7_fairest_3 17 rfl rfl)
theorem dX7_fairest_90 : decode cX7_fairest 90 = .ok (.if_icmp .gt 6, 3) := dk_163 0 6 (dk_at dksX7_fairest_3 19 rfl rfl)
theorem dX7_fairest_93 : decode cX7_fairest 93 = .ok (.goto 10, 3) := dk_167 0 10 (dk_at dksX7_fairest_4 0 rfl rfl)
theorem dX7_fairest_96 : decode cX7_fairest 96 = .ok (.iload 5, 2) := dk_21 5 (dk_at dksX7_fairest_4 3 rfl rfl)
theorem dX7_fairest_98 : decode cX7_fairest 98 = .ok (.istore_n 3, 1) := dk_62 (dk_at dksX7_fairest_4 5 rfl rfl)
theorem dX7_fairest_99 : decode cX7_fairest 99 = .ok (.iload 6, 2) := dk_21 6 (dk_at dksX7_fairest_4 6 rfl rfl)
theorem dX7_fairest_101 : decode cX7_fairest 101 = .ok (.istore 4, 2) := dk_54 4 (dk_at dksX7_fairest_4 8 rfl rfl)
theorem dX7_fairest_103 : decode cX7_fairest 103 = .ok (.iinc 5 1, 3) := dk_132 5 1 (dk_at dksX7_fairest_4 10 rfl rfl)
theorem dX7_fairest_106 : decode cX7_fairest 106 = .ok (.goto (-59), 3) := dk_167 255 197 (dk_at dksX7_fairest_4 13 rfl rfl)
theorem dX7_fairest_109 : decode cX7_fairest 109 = .ok (.iload_n 3, 1) := dk_29 (dk_at dksX7_fairest_4 16 rfl rfl)
theorem dX7_fairest_110 : decode cX7_fairest 110 = .ok (.ireturn, 1) := dk_172 (dk_at dksX7_fairest_4 17 rfl rfl)
abbrev cX7_goodFor : ByteArray := prog_21_method_95_code
def yX7_goodFor : MethodName := ⟨RX7, "goodFor", "(III)I"⟩
def dkwX7_goodFor_3 : List UInt8 := [54, 5, 132, 6, 1, 167, 255, 216, 21, 5, 21, 4, 100, 172]
abbrev dktX7_goodFor_3 : List UInt8 := dkwX7_goodFor_3 ++ []
def dkwX7_goodFor_2 : List UInt8 := [42, 180, 0, 97, 21, 6, 46, 184, 1, 29, 54, 4, 21, 5, 42, 180, 0, 97, 21, 6, 46, 184, 0, 195]
abbrev dktX7_goodFor_2 : List UInt8 := dkwX7_goodFor_2 ++ dktX7_goodFor_3
def dkwX7_goodFor_1 : List UInt8 := [54, 4, 42, 180, 0, 97, 3, 46, 54, 5, 4, 54, 6, 21, 6, 42, 180, 1, 115, 162, 0, 37, 21, 4]
abbrev dktX7_goodFor_1 : List UInt8 := dkwX7_goodFor_1 ++ dktX7_goodFor_2
def dkwX7_goodFor_0 : List UInt8 := [42, 27, 28, 182, 1, 147, 29, 2, 159, 0, 10, 42, 180, 0, 102, 29, 46, 172, 42, 180, 0, 97, 3, 46]
abbrev dktX7_goodFor_0 : List UInt8 := dkwX7_goodFor_0 ++ dktX7_goodFor_1
theorem dksX7_goodFor_0 : cX7_goodFor.data.toList.drop 0 = dktX7_goodFor_0 := by decide +kernel
theorem dksX7_goodFor_1 : cX7_goodFor.data.toList.drop 24 = dktX7_goodFor_1 := dk_seg dksX7_goodFor_0 24 rfl rfl
theorem dksX7_goodFor_2 : cX7_goodFor.data.toList.drop 48 = dktX7_goodFor_2 := dk_seg dksX7_goodFor_1 24 rfl rfl
theorem dksX7_goodFor_3 : cX7_goodFor.data.toList.drop 72 = dktX7_goodFor_3 := dk_seg dksX7_goodFor_2 24 rfl rfl
theorem dX7_goodFor_0 : decode cX7_goodFor 0 = .ok (.aload_n 0, 1) := dk_42 (dk_at dksX7_goodFor_0 0 rfl rfl)
theorem dX7_goodFor_1 : decode cX7_goodFor 1 = .ok (.iload_n 1, 1) := dk_27 (dk_at dksX7_goodFor_0 1 rfl rfl)
theorem dX7_goodFor_2 : decode cX7_goodFor 2 = .ok (.iload_n 2, 1) := dk_28 (dk_at dksX7_goodFor_0 2 rfl rfl)
theorem dX7_goodFor_3 : decode cX7_goodFor 3 = .ok (.invokevirtual 403, 3) := dk_182 1 147 (dk_at dksX7_goodFor_0 3 rfl rfl)
theorem dX7_goodFor_6 : decode cX7_goodFor 6 = .ok (.iload_n 3, 1) := dk_29 (dk_at dksX7_goodFor_0 6 rfl rfl)
theorem dX7_goodFor_7 : decode cX7_goodFor 7 = .ok (.iconst (-1), 1) := dk_2 (dk_at dksX7_goodFor_0 7 rfl rfl)
theorem dX7_goodFor_8 : decode cX7_goodFor 8 = .ok (.if_icmp .eq 10, 3) := dk_159 0 10 (dk_at dksX7_goodFor_0 8 rfl rfl)
theorem dX7_goodFor_11 : decode cX7_goodFor 11 = .ok (.aload_n 0, 1) := dk_42 (dk_at dksX7_goodFor_0 11 rfl rfl)
theorem dX7_goodFor_12 : decode cX7_goodFor 12 = .ok (.getfield 102, 3) := dk_180 0 102 (dk_at dksX7_goodFor_0 12 rfl rfl)
theorem dX7_goodFor_15 : decode cX7_goodFor 15 = .ok (.iload_n 3, 1) := dk_29 (dk_at dksX7_goodFor_0 15 rfl rfl)
theorem dX7_goodFor_16 : decode cX7_goodFor 16 = .ok (.iaload, 1) := dk_46 (dk_at dksX7_goodFor_0 16 rfl rfl)
theorem dX7_goodFor_17 : decode cX7_goodFor 17 = .ok (.ireturn, 1) := dk_172 (dk_at dksX7_goodFor_0 17 rfl rfl)
theorem dX7_goodFor_18 : decode cX7_goodFor 18 = .ok (.aload_n 0, 1) := dk_42 (dk_at dksX7_goodFor_0 18 rfl rfl)
theorem dX7_goodFor_19 : decode cX7_goodFor 19 = .ok (.getfield 97, 3) := dk_180 0 97 (dk_at dksX7_goodFor_0 19 rfl rfl)
theorem dX7_goodFor_22 : decode cX7_goodFor 22 = .ok (.iconst 0, 1) := dk_3 (dk_at dksX7_goodFor_0 22 rfl rfl)
theorem dX7_goodFor_23 : decode cX7_goodFor 23 = .ok (.iaload, 1) := dk_46 (dk_at dksX7_goodFor_0 23 rfl rfl)
theorem dX7_goodFor_24 : decode cX7_goodFor 24 = .ok (.istore 4, 2) := dk_54 4 (dk_at dksX7_goodFor_1 0 rfl rfl)
theorem dX7_goodFor_26 : decode cX7_goodFor 26 = .ok (.aload_n 0, 1) := dk_42 (dk_at dksX7_goodFor_1 2 rfl rfl)
theorem dX7_goodFor_27 : decode cX7_goodFor 27 = .ok (.getfield 97, 3) := dk_180 0 97 (dk_at dksX7_goodFor_1 3 rfl rfl)
theorem dX7_goodFor_30 : decode cX7_goodFor 30 = .ok (.iconst 0, 1) := dk_3 (dk_at dksX7_goodFor_1 6 rfl rfl)
theorem dX7_goodFor_31 : decode cX7_goodFor 31 = .ok (.iaload, 1) := dk_46 (dk_at dksX7_goodFor_1 7 rfl rfl)
theorem dX7_goodFor_32 : decode cX7_goodFor 32 = .ok (.istore 5, 2) := dk_54 5 (dk_at dksX7_goodFor_1 8 rfl rfl)
theorem dX7_goodFor_34 : decode cX7_goodFor 34 = .ok (.iconst 1, 1) := dk_4 (dk_at dksX7_goodFor_1 10 rfl rfl)
theorem dX7_goodFor_35 : decode cX7_goodFor 35 = .ok (.istore 6, 2) := dk_54 6 (dk_at dksX7_goodFor_1 11 rfl rfl)
theorem dX7_goodFor_37 : decode cX7_goodFor 37 = .ok (.iload 6, 2) := dk_21 6 (dk_at dksX7_goodFor_1 13 rfl rfl)
theorem dX7_goodFor_39 : decode cX7_goodFor 39 = .ok (.aload_n 0, 1) := dk_42 (dk_at dksX7_goodFor_1 15 rfl rfl)
theorem dX7_goodFor_40 : decode cX7_goodFor 40 = .ok (.getfield 371, 3) := dk_180 1 115 (dk_at dksX7_goodFor_1 16 rfl rfl)
theorem dX7_goodFor_43 : decode cX7_goodFor 43 = .ok (.if_icmp .ge 37, 3) := dk_162 0 37 (dk_at dksX7_goodFor_1 19 rfl rfl)
theorem dX7_goodFor_46 : decode cX7_goodFor 46 = .ok (.iload 4, 2) := dk_21 4 (dk_at dksX7_goodFor_1 22 rfl rfl)
theorem dX7_goodFor_48 : decode cX7_goodFor 48 = .ok (.aload_n 0, 1) := dk_42 (dk_at dksX7_goodFor_2 0 rfl rfl)
theorem dX7_goodFor_49 : decode cX7_goodFor 49 = .ok (.getfield 97, 3) := dk_180 0 97 (dk_at dksX7_goodFor_2 1 rfl rfl)
theorem dX7_goodFor_52 : decode cX7_goodFor 52 = .ok (.iload 6, 2) := dk_21 6 (dk_at dksX7_goodFor_2 4 rfl rfl)
theorem dX7_goodFor_54 : decode cX7_goodFor 54 = .ok (.iaload, 1) := dk_46 (dk_at dksX7_goodFor_2 6 rfl rfl)
theorem dX7_goodFor_55 : decode cX7_goodFor 55 = .ok (.invokestatic 285, 3) := dk_184 1 29 (dk_at dksX7_goodFor_2 7 rfl rfl)
theorem dX7_goodFor_58 : decode cX7_goodFor 58 = .ok (.istore 4, 2) := dk_54 4 (dk_at dksX7_goodFor_2 10 rfl rfl)
theorem dX7_goodFor_60 : decode cX7_goodFor 60 = .ok (.iload 5, 2) := dk_21 5 (dk_at dksX7_goodFor_2 12 rfl rfl)
theorem dX7_goodFor_62 : decode cX7_goodFor 62 = .ok (.aload_n 0, 1) := dk_42 (dk_at dksX7_goodFor_2 14 rfl rfl)
theorem dX7_goodFor_63 : decode cX7_goodFor 63 = .ok (.getfield 97, 3) := dk_180 0 97 (dk_at dksX7_goodFor_2 15 rfl rfl)
theorem dX7_goodFor_66 : decode cX7_goodFor 66 = .ok (.iload 6, 2) := dk_21 6 (dk_at dksX7_goodFor_2 18 rfl rfl)
theorem dX7_goodFor_68 : decode cX7_goodFor 68 = .ok (.iaload, 1) := dk_46 (dk_at dksX7_goodFor_2 20 rfl rfl)
theorem dX7_goodFor_69 : decode cX7_goodFor 69 = .ok (.invokestatic 195, 3) := dk_184 0 195 (dk_at dksX7_goodFor_2 21 rfl rfl)
theorem dX7_goodFor_72 : decode cX7_goodFor 72 = .ok (.istore 5, 2) := dk_54 5 (dk_at dksX7_goodFor_3 0 rfl rfl)
theorem dX7_goodFor_74 : decode cX7_goodFor 74 = .ok (.iinc 6 1, 3) := dk_132 6 1 (dk_at dksX7_goodFor_3 2 rfl rfl)
theorem dX7_goodFor_77 : decode cX7_goodFor 77 = .ok (.goto (-40), 3) := dk_167 255 216 (dk_at dksX7_goodFor_3 5 rfl rfl)
theorem dX7_goodFor_80 : decode cX7_goodFor 80 = .ok (.iload 5, 2) := dk_21 5 (dk_at dksX7_goodFor_3 8 rfl rfl)
theorem dX7_goodFor_82 : decode cX7_goodFor 82 = .ok (.iload 4, 2) := dk_21 4 (dk_at dksX7_goodFor_3 10 rfl rfl)
theorem dX7_goodFor_84 : decode cX7_goodFor 84 = .ok (.isub, 1) := dk_100 (dk_at dksX7_goodFor_3 12 rfl rfl)
theorem dX7_goodFor_85 : decode cX7_goodFor 85 = .ok (.ireturn, 1) := dk_172 (dk_at dksX7_goodFor_3 13 rfl rfl)
abbrev cX7_forget : ByteArray := prog_21_method_97_code
def yX7_forget : MethodName := ⟨RX7, "forget", "()V"⟩
def dkwX7_forget_0 : List UInt8 := [42, 3, 181, 0, 159, 42, 3, 181, 1, 74, 42, 3, 181, 1, 77, 177]
abbrev dktX7_forget_0 : List UInt8 := dkwX7_forget_0 ++ []
theorem dksX7_forget_0 : cX7_forget.data.toList.drop 0 = dktX7_forget_0 := by decide +kernel
theorem dX7_forget_0 : decode cX7_forget 0 = .ok (.aload_n 0, 1) := dk_42 (dk_at dksX7_forget_0 0 rfl rfl)
theorem dX7_forget_1 : decode cX7_forget 1 = .ok (.iconst 0, 1) := dk_3 (dk_at dksX7_forget_0 1 rfl rfl)
theorem dX7_forget_2 : decode cX7_forget 2 = .ok (.putfield 159, 3) := dk_181 0 159 (dk_at dksX7_forget_0 2 rfl rfl)
theorem dX7_forget_5 : decode cX7_forget 5 = .ok (.aload_n 0, 1) := dk_42 (dk_at dksX7_forget_0 5 rfl rfl)
theorem dX7_forget_6 : decode cX7_forget 6 = .ok (.iconst 0, 1) := dk_3 (dk_at dksX7_forget_0 6 rfl rfl)
theorem dX7_forget_7 : decode cX7_forget 7 = .ok (.putfield 330, 3) := dk_181 1 74 (dk_at dksX7_forget_0 7 rfl rfl)
theorem dX7_forget_10 : decode cX7_forget 10 = .ok (.aload_n 0, 1) := dk_42 (dk_at dksX7_forget_0 10 rfl rfl)
theorem dX7_forget_11 : decode cX7_forget 11 = .ok (.iconst 0, 1) := dk_3 (dk_at dksX7_forget_0 11 rfl rfl)
theorem dX7_forget_12 : decode cX7_forget 12 = .ok (.putfield 333, 3) := dk_181 1 77 (dk_at dksX7_forget_0 12 rfl rfl)
theorem dX7_forget_15 : decode cX7_forget 15 = .ok (.return_, 1) := dk_177 (dk_at dksX7_forget_0 15 rfl rfl)
abbrev cX7_game : ByteArray := prog_21_method_99_code
def yX7_game : MethodName := ⟨RX7, "game", "(III)I"⟩
def dkwX7_game_8 : List UInt8 := [132, 7, 1, 167, 255, 133, 132, 6, 1, 167, 255, 113, 29, 154, 0, 8, 21, 4, 167, 0, 5, 21, 5, 172]
abbrev dktX7_game_8 : List UInt8 := dkwX7_game_8 ++ []
def dkwX7_game_7 : List UInt8 := [132, 4, 1, 21, 5, 2, 160, 0, 14, 16, 10, 21, 6, 104, 21, 7, 96, 167, 0, 5, 21, 5, 54, 5]
abbrev dktX7_game_7 : List UInt8 := dkwX7_game_7 ++ dktX7_game_8
def dkwX7_game_6 : List UInt8 := [163, 0, 7, 4, 167, 0, 4, 3, 54, 8, 132, 9, 1, 167, 255, 188, 21, 8, 154, 0, 6, 167, 0, 27]
abbrev dktX7_game_6 : List UInt8 := dkwX7_game_6 ++ dktX7_game_7
def dkwX7_game_5 : List UInt8 := [182, 1, 227, 163, 0, 28, 42, 28, 21, 9, 21, 6, 182, 1, 227, 42, 28, 21, 7, 21, 6, 182, 1, 227]
abbrev dktX7_game_5 : List UInt8 := dkwX7_game_5 ++ dktX7_game_6
def dkwX7_game_4 : List UInt8 := [46, 162, 0, 63, 21, 8, 153, 0, 58, 42, 27, 21, 9, 21, 7, 182, 1, 227, 42, 27, 21, 6, 21, 7]
abbrev dktX7_game_4 : List UInt8 := dkwX7_game_4 ++ dktX7_game_5
def dkwX7_game_3 : List UInt8 := [21, 7, 42, 180, 0, 38, 4, 46, 162, 0, 118, 4, 54, 8, 3, 54, 9, 21, 9, 42, 180, 0, 38, 4]
abbrev dktX7_game_3 : List UInt8 := dkwX7_game_3 ++ dktX7_game_4
def dkwX7_game_2 : List UInt8 := [172, 3, 54, 4, 2, 54, 5, 3, 54, 6, 21, 6, 42, 180, 0, 38, 4, 46, 162, 0, 138, 3, 54, 7]
abbrev dktX7_game_2 : List UInt8 := dkwX7_game_2 ++ dktX7_game_3
def dkwX7_game_1 : List UInt8 := [155, 0, 8, 29, 4, 164, 0, 9, 42, 4, 182, 1, 51, 172, 27, 28, 160, 0, 9, 42, 5, 182, 1, 51]
abbrev dktX7_game_1 : List UInt8 := dkwX7_game_1 ++ dktX7_game_2
def dkwX7_game_0 : List UInt8 := [42, 3, 181, 0, 159, 42, 27, 182, 1, 133, 153, 0, 20, 42, 28, 182, 1, 133, 153, 0, 12, 29]
abbrev dktX7_game_0 : List UInt8 := dkwX7_game_0 ++ dktX7_game_1
theorem dksX7_game_0 : cX7_game.data.toList.drop 0 = dktX7_game_0 := by decide +kernel
theorem dksX7_game_1 : cX7_game.data.toList.drop 22 = dktX7_game_1 := dk_seg dksX7_game_0 22 rfl rfl
theorem dksX7_game_2 : cX7_game.data.toList.drop 46 = dktX7_game_2 := dk_seg dksX7_game_1 24 rfl rfl
theorem dksX7_game_3 : cX7_game.data.toList.drop 70 = dktX7_game_3 := dk_seg dksX7_game_2 24 rfl rfl
theorem dksX7_game_4 : cX7_game.data.toList.drop 94 = dktX7_game_4 := dk_seg dksX7_game_3 24 rfl rfl
theorem dksX7_game_5 : cX7_game.data.toList.drop 118 = dktX7_game_5 := dk_seg dksX7_game_4 24 rfl rfl
theorem dksX7_game_6 : cX7_game.data.toList.drop 142 = dktX7_game_6 := dk_seg dksX7_game_5 24 rfl rfl
theorem dksX7_game_7 : cX7_game.data.toList.drop 166 = dktX7_game_7 := dk_seg dksX7_game_6 24 rfl rfl
theorem dksX7_game_8 : cX7_game.data.toList.drop 190 = dktX7_game_8 := dk_seg dksX7_game_7 24 rfl rfl
theorem dX7_game_0 : decode cX7_game 0 = .ok (.aload_n 0, 1) := dk_42 (dk_at dksX7_game_0 0 rfl rfl)
theorem dX7_game_1 : decode cX7_game 1 = .ok (.iconst 0, 1) := dk_3 (dk_at dksX7_game_0 1 rfl rfl)
theorem dX7_game_2 : decode cX7_game 2 = .ok (.putfield 159, 3) := dk_181 0 159 (dk_at dksX7_game_0 2 rfl rfl)
theorem dX7_game_5 : decode cX7_game 5 = .ok (.aload_n 0, 1) := dk_42 (dk_at dksX7_game_0 5 rfl rfl)
theorem dX7_game_6 : decode cX7_game 6 = .ok (.iload_n 1, 1) := dk_27 (dk_at dksX7_game_0 6 rfl rfl)
theorem dX7_game_7 : decode cX7_game 7 = .ok (.invokevirtual 389, 3) := dk_182 1 133 (dk_at dksX7_game_0 7 rfl rfl)
theorem dX7_game_10 : decode cX7_game 10 = .ok (.ifCond .eq 20, 3) := dk_153 0 20 (dk_at dksX7_game_0 10 rfl rfl)
theorem dX7_game_13 : decode cX7_game 13 = .ok (.aload_n 0, 1) := dk_42 (dk_at dksX7_game_0 13 rfl rfl)
theorem dX7_game_14 : decode cX7_game 14 = .ok (.iload_n 2, 1) := dk_28 (dk_at dksX7_game_0 14 rfl rfl)
theorem dX7_game_15 : decode cX7_game 15 = .ok (.invokevirtual 389, 3) := dk_182 1 133 (dk_at dksX7_game_0 15 rfl rfl)
theorem dX7_game_18 : decode cX7_game 18 = .ok (.ifCond .eq 12, 3) := dk_153 0 12 (dk_at dksX7_game_0 18 rfl rfl)
theorem dX7_game_21 : decode cX7_game 21 = .ok (.iload_n 3, 1) := dk_29 (dk_at dksX7_game_0 21 rfl rfl)
theorem dX7_game_22 : decode cX7_game 22 = .ok (.ifCond .lt 8, 3) := dk_155 0 8 (dk_at dksX7_game_1 0 rfl rfl)
theorem dX7_game_25 : decode cX7_game 25 = .ok (.iload_n 3, 1) := dk_29 (dk_at dksX7_game_1 3 rfl rfl)
theorem dX7_game_26 : decode cX7_game 26 = .ok (.iconst 1, 1) := dk_4 (dk_at dksX7_game_1 4 rfl rfl)
theorem dX7_game_27 : decode cX7_game 27 = .ok (.if_icmp .le 9, 3) := dk_164 0 9 (dk_at dksX7_game_1 5 rfl rfl)
theorem dX7_game_30 : decode cX7_game 30 = .ok (.aload_n 0, 1) := dk_42 (dk_at dksX7_game_1 8 rfl rfl)
theorem dX7_game_31 : decode cX7_game 31 = .ok (.iconst 1, 1) := dk_4 (dk_at dksX7_game_1 9 rfl rfl)
theorem dX7_game_32 : decode cX7_game 32 = .ok (.invokevirtual 307, 3) := dk_182 1 51 (dk_at dksX7_game_1 10 rfl rfl)
theorem dX7_game_35 : decode cX7_game 35 = .ok (.ireturn, 1) := dk_172 (dk_at dksX7_game_1 13 rfl rfl)
theorem dX7_game_36 : decode cX7_game 36 = .ok (.iload_n 1, 1) := dk_27 (dk_at dksX7_game_1 14 rfl rfl)
theorem dX7_game_37 : decode cX7_game 37 = .ok (.iload_n 2, 1) := dk_28 (dk_at dksX7_game_1 15 rfl rfl)
theorem dX7_game_38 : decode cX7_game 38 = .ok (.if_icmp .ne 9, 3) := dk_160 0 9 (dk_at dksX7_game_1 16 rfl rfl)
theorem dX7_game_41 : decode cX7_game 41 = .ok (.aload_n 0, 1) := dk_42 (dk_at dksX7_game_1 19 rfl rfl)
theorem dX7_game_42 : decode cX7_game 42 = .ok (.iconst 2, 1) := dk_5 (dk_at dksX7_game_1 20 rfl rfl)
theorem dX7_game_43 : decode cX7_game 43 = .ok (.invokevirtual 307, 3) := dk_182 1 51 (dk_at dksX7_game_1 21 rfl rfl)
theorem dX7_game_46 : decode cX7_game 46 = .ok (.ireturn, 1) := dk_172 (dk_at dksX7_game_2 0 rfl rfl)
theorem dX7_game_47 : decode cX7_game 47 = .ok (.iconst 0, 1) := dk_3 (dk_at dksX7_game_2 1 rfl rfl)
theorem dX7_game_48 : decode cX7_game 48 = .ok (.istore 4, 2) := dk_54 4 (dk_at dksX7_game_2 2 rfl rfl)
theorem dX7_game_50 : decode cX7_game 50 = .ok (.iconst (-1), 1) := dk_2 (dk_at dksX7_game_2 4 rfl rfl)
theorem dX7_game_51 : decode cX7_game 51 = .ok (.istore 5, 2) := dk_54 5 (dk_at dksX7_game_2 5 rfl rfl)
theorem dX7_game_53 : decode cX7_game 53 = .ok (.iconst 0, 1) := dk_3 (dk_at dksX7_game_2 7 rfl rfl)
theorem dX7_game_54 : decode cX7_game 54 = .ok (.istore 6, 2) := dk_54 6 (dk_at dksX7_game_2 8 rfl rfl)
theorem dX7_game_56 : decode cX7_game 56 = .ok (.iload 6, 2) := dk_21 6 (dk_at dksX7_game_2 10 rfl rfl)
theorem dX7_game_58 : decode cX7_game 58 = .ok (.aload_n 0, 1) := dk_42 (dk_at dksX7_game_2 12 rfl rfl)
theorem dX7_game_59 : decode cX7_game 59 = .ok (.getfield 38, 3) := dk_180 0 38 (dk_at dksX7_game_2 13 rfl rfl)
theorem dX7_game_62 : decode cX7_game 62 = .ok (.iconst 1, 1) := dk_4 (dk_at dksX7_game_2 16 rfl rfl)
theorem dX7_game_63 : decode cX7_game 63 = .ok (.iaload, 1) := dk_46 (dk_at dksX7_game_2 17 rfl rfl)
theorem dX7_game_64 : decode cX7_game 64 = .ok (.if_icmp .ge 138, 3) := dk_162 0 138 (dk_at dksX7_game_2 18 rfl rfl)
theorem dX7_game_67 : decode cX7_game 67 = .ok (.iconst 0, 1) := dk_3 (dk_at dksX7_game_2 21 rfl rfl)
theorem dX7_game_68 : decode cX7_game 68 = .ok (.istore 7, 2) := dk_54 7 (dk_at dksX7_game_2 22 rfl rfl)
theorem dX7_game_70 : decode cX7_game 70 = .ok (.iload 7, 2) := dk_21 7 (dk_at dksX7_game_3 0 rfl rfl)
theorem dX7_game_72 : decode cX7_game 72 = .ok (.aload_n 0, 1) := dk_42 (dk_at dksX7_game_3 2 rfl rfl)
theorem dX7_game_73 : decode cX7_game 73 = .ok (.getfield 38, 3) := dk_180 0 38 (dk_at dksX7_game_3 3 rfl rfl)
theorem dX7_game_76 : decode cX7_game 76 = .ok (.iconst 1, 1) := dk_4 (dk_at dksX7_game_3 6 rfl rfl)
theorem dX7_game_77 : decode cX7_game 77 = .ok (.iaload, 1) := dk_46 (dk_at dksX7_game_3 7 rfl rfl)
theorem dX7_game_78 : decode cX7_game 78 = .ok (.if_icmp .ge 118, 3) := dk_162 0 118 (dk_at dksX7_game_3 8 rfl rfl)
theorem dX7_game_81 : decode cX7_game 81 = .ok (.iconst 1, 1) := dk_4 (dk_at dksX7_game_3 11 rfl rfl)
theorem dX7_game_82 : decode cX7_game 82 = .ok (.istore 8, 2) := dk_54 8 (dk_at dksX7_game_3 12 rfl rfl)
theorem dX7_game_84 : decode cX7_game 84 = .ok (.iconst 0, 1) := dk_3 (dk_at dksX7_game_3 14 rfl rfl)
theorem dX7_game_85 : decode cX7_game 85 = .ok (.istore 9, 2) := dk_54 9 (dk_at dksX7_game_3 15 rfl rfl)
theorem dX7_game_87 : decode cX7_game 87 = .ok (.iload 9, 2) := dk_21 9 (dk_at dksX7_game_3 17 rfl rfl)
theorem dX7_game_89 : decode cX7_game 89 = .ok (.aload_n 0, 1) := dk_42 (dk_at dksX7_game_3 19 rfl rfl)
theorem dX7_game_90 : decode cX7_game 90 = .ok (.getfield 38, 3) := dk_180 0 38 (dk_at dksX7_game_3 20 rfl rfl)
theorem dX7_game_93 : decode cX7_game 93 = .ok (.iconst 1, 1) := dk_4 (dk_at dksX7_game_3 23 rfl rfl)
theorem dX7_game_94 : decode cX7_game 94 = .ok (.iaload, 1) := dk_46 (dk_at dksX7_game_4 0 rfl rfl)
theorem dX7_game_95 : decode cX7_game 95 = .ok (.if_icmp .ge 63, 3) := dk_162 0 63 (dk_at dksX7_game_4 1 rfl rfl)
theorem dX7_game_98 : decode cX7_game 98 = .ok (.iload 8, 2) := dk_21 8 (dk_at dksX7_game_4 4 rfl rfl)
theorem dX7_game_100 : decode cX7_game 100 = .ok (.ifCond .eq 58, 3) := dk_153 0 58 (dk_at dksX7_game_4 6 rfl rfl)
theorem dX7_game_103 : decode cX7_game 103 = .ok (.aload_n 0, 1) := dk_42 (dk_at dksX7_game_4 9 rfl rfl)
theorem dX7_game_104 : decode cX7_game 104 = .ok (.iload_n 1, 1) := dk_27 (dk_at dksX7_game_4 10 rfl rfl)
theorem dX7_game_105 : decode cX7_game 105 = .ok (.iload 9, 2) := dk_21 9 (dk_at dksX7_game_4 11 rfl rfl)
theorem dX7_game_107 : decode cX7_game 107 = .ok (.iload 7, 2) := dk_21 7 (dk_at dksX7_game_4 13 rfl rfl)
theorem dX7_game_109 : decode cX7_game 109 = .ok (.invokevirtual 483, 3) := dk_182 1 227 (dk_at dksX7_game_4 15 rfl rfl)
theorem dX7_game_112 : decode cX7_game 112 = .ok (.aload_n 0, 1) := dk_42 (dk_at dksX7_game_4 18 rfl rfl)
theorem dX7_game_113 : decode cX7_game 113 = .ok (.iload_n 1, 1) := dk_27 (dk_at dksX7_game_4 19 rfl rfl)
theorem dX7_game_114 : decode cX7_game 114 = .ok (.iload 6, 2) := dk_21 6 (dk_at dksX7_game_4 20 rfl rfl)
theorem dX7_game_116 : decode cX7_game 116 = .ok (.iload 7, 2) := dk_21 7 (dk_at dksX7_game_4 22 rfl rfl)
theorem dX7_game_118 : decode cX7_game 118 = .ok (.invokevirtual 483, 3) := dk_182 1 227 (dk_at dksX7_game_5 0 rfl rfl)
theorem dX7_game_121 : decode cX7_game 121 = .ok (.if_icmp .gt 28, 3) := dk_163 0 28 (dk_at dksX7_game_5 3 rfl rfl)
theorem dX7_game_124 : decode cX7_game 124 = .ok (.aload_n 0, 1) := dk_42 (dk_at dksX7_game_5 6 rfl rfl)
theorem dX7_game_125 : decode cX7_game 125 = .ok (.iload_n 2, 1) := dk_28 (dk_at dksX7_game_5 7 rfl rfl)
theorem dX7_game_126 : decode cX7_game 126 = .ok (.iload 9, 2) := dk_21 9 (dk_at dksX7_game_5 8 rfl rfl)
theorem dX7_game_128 : decode cX7_game 128 = .ok (.iload 6, 2) := dk_21 6 (dk_at dksX7_game_5 10 rfl rfl)
theorem dX7_game_130 : decode cX7_game 130 = .ok (.invokevirtual 483, 3) := dk_182 1 227 (dk_at dksX7_game_5 12 rfl rfl)
theorem dX7_game_133 : decode cX7_game 133 = .ok (.aload_n 0, 1) := dk_42 (dk_at dksX7_game_5 15 rfl rfl)
theorem dX7_game_134 : decode cX7_game 134 = .ok (.iload_n 2, 1) := dk_28 (dk_at dksX7_game_5 16 rfl rfl)
theorem dX7_game_135 : decode cX7_game 135 = .ok (.iload 7, 2) := dk_21 7 (dk_at dksX7_game_5 17 rfl rfl)
theorem dX7_game_137 : decode cX7_game 137 = .ok (.iload 6, 2) := dk_21 6 (dk_at dksX7_game_5 19 rfl rfl)
theorem dX7_game_139 : decode cX7_game 139 = .ok (.invokevirtual 483, 3) := dk_182 1 227 (dk_at dksX7_game_5 21 rfl rfl)
theorem dX7_game_142 : decode cX7_game 142 = .ok (.if_icmp .gt 7, 3) := dk_163 0 7 (dk_at dksX7_game_6 0 rfl rfl)
theorem dX7_game_145 : decode cX7_game 145 = .ok (.iconst 1, 1) := dk_4 (dk_at dksX7_game_6 3 rfl rfl)
theorem dX7_game_146 : decode cX7_game 146 = .ok (.goto 4, 3) := dk_167 0 4 (dk_at dksX7_game_6 4 rfl rfl)
theorem dX7_game_149 : decode cX7_game 149 = .ok (.iconst 0, 1) := dk_3 (dk_at dksX7_game_6 7 rfl rfl)
theorem dX7_game_150 : decode cX7_game 150 = .ok (.istore 8, 2) := dk_54 8 (dk_at dksX7_game_6 8 rfl rfl)
theorem dX7_game_152 : decode cX7_game 152 = .ok (.iinc 9 1, 3) := dk_132 9 1 (dk_at dksX7_game_6 10 rfl rfl)
theorem dX7_game_155 : decode cX7_game 155 = .ok (.goto (-68), 3) := dk_167 255 188 (dk_at dksX7_game_6 13 rfl rfl)
theorem dX7_game_158 : decode cX7_game 158 = .ok (.iload 8, 2) := dk_21 8 (dk_at dksX7_game_6 16 rfl rfl)
theorem dX7_game_160 : decode cX7_game 160 = .ok (.ifCond .ne 6, 3) := dk_154 0 6 (dk_at dksX7_game_6 18 rfl rfl)
theorem dX7_game_163 : decode cX7_game 163 = .ok (.goto 27, 3) := dk_167 0 27 (dk_at dksX7_game_6 21 rfl rfl)
theorem dX7_game_166 : decode cX7_game 166 = .ok (.iinc 4 1, 3) := dk_132 4 1 (dk_at dksX7_game_7 0 rfl rfl)
theorem dX7_game_169 : decode cX7_game 169 = .ok (.iload 5, 2) := dk_21 5 (dk_at dksX7_game_7 3 rfl rfl)
theorem dX7_game_171 : decode cX7_game 171 = .ok (.iconst (-1), 1) := dk_2 (dk_at dksX7_game_7 5 rfl rfl)
theorem dX7_game_172 : decode cX7_game 172 = .ok (.if_icmp .ne 14, 3) := dk_160 0 14 (dk_at dksX7_game_7 6 rfl rfl)
theorem dX7_game_175 : decode cX7_game 175 = .ok (.bipush 10, 2) := dk_16 10 (dk_at dksX7_game_7 9 rfl rfl)
theorem dX7_game_177 : decode cX7_game 177 = .ok (.iload 6, 2) := dk_21 6 (dk_at dksX7_game_7 11 rfl rfl)
theorem dX7_game_179 : decode cX7_game 179 = .ok (.imul, 1) := dk_104 (dk_at dksX7_game_7 13 rfl rfl)
theorem dX7_game_180 : decode cX7_game 180 = .ok (.iload 7, 2) := dk_21 7 (dk_at dksX7_game_7 14 rfl rfl)
theorem dX7_game_182 : decode cX7_game 182 = .ok (.iadd, 1) := dk_96 (dk_at dksX7_game_7 16 rfl rfl)
theorem dX7_game_183 : decode cX7_game 183 = .ok (.goto 5, 3) := dk_167 0 5 (dk_at dksX7_game_7 17 rfl rfl)
theorem dX7_game_186 : decode cX7_game 186 = .ok (.iload 5, 2) := dk_21 5 (dk_at dksX7_game_7 20 rfl rfl)
theorem dX7_game_188 : decode cX7_game 188 = .ok (.istore 5, 2) := dk_54 5 (dk_at dksX7_game_7 22 rfl rfl)
theorem dX7_game_190 : decode cX7_game 190 = .ok (.iinc 7 1, 3) := dk_132 7 1 (dk_at dksX7_game_8 0 rfl rfl)
theorem dX7_game_193 : decode cX7_game 193 = .ok (.goto (-123), 3) := dk_167 255 133 (dk_at dksX7_game_8 3 rfl rfl)
theorem dX7_game_196 : decode cX7_game 196 = .ok (.iinc 6 1, 3) := dk_132 6 1 (dk_at dksX7_game_8 6 rfl rfl)
theorem dX7_game_199 : decode cX7_game 199 = .ok (.goto (-143), 3) := dk_167 255 113 (dk_at dksX7_game_8 9 rfl rfl)
theorem dX7_game_202 : decode cX7_game 202 = .ok (.iload_n 3, 1) := dk_29 (dk_at dksX7_game_8 12 rfl rfl)
theorem dX7_game_203 : decode cX7_game 203 = .ok (.ifCond .ne 8, 3) := dk_154 0 8 (dk_at dksX7_game_8 13 rfl rfl)
theorem dX7_game_206 : decode cX7_game 206 = .ok (.iload 4, 2) := dk_21 4 (dk_at dksX7_game_8 16 rfl rfl)
theorem dX7_game_208 : decode cX7_game 208 = .ok (.goto 5, 3) := dk_167 0 5 (dk_at dksX7_game_8 18 rfl rfl)
theorem dX7_game_211 : decode cX7_game 211 = .ok (.iload 5, 2) := dk_21 5 (dk_at dksX7_game_8 21 rfl rfl)
theorem dX7_game_213 : decode cX7_game 213 = .ok (.ireturn, 1) := dk_172 (dk_at dksX7_game_8 23 rfl rfl)
abbrev cX7_gain : ByteArray := prog_21_method_98_code
def yX7_gain : MethodName := ⟨RX7, "gain", "(III)I"⟩
def dkwX7_gain_1 : List UInt8 := [172]
abbrev dktX7_gain_1 : List UInt8 := dkwX7_gain_1 ++ []
def dkwX7_gain_0 : List UInt8 := [28, 29, 159, 0, 21, 42, 27, 28, 182, 1, 108, 153, 0, 12, 42, 180, 0, 52, 28, 46, 167, 0, 4, 3]
abbrev dktX7_gain_0 : List UInt8 := dkwX7_gain_0 ++ dktX7_gain_1
theorem dksX7_gain_0 : cX7_gain.data.toList.drop 0 = dktX7_gain_0 := by decide +kernel
theorem dksX7_gain_1 : cX7_gain.data.toList.drop 24 = dktX7_gain_1 := dk_seg dksX7_gain_0 24 rfl rfl
theorem dX7_gain_0 : decode cX7_gain 0 = .ok (.iload_n 2, 1) := dk_28 (dk_at dksX7_gain_0 0 rfl rfl)
theorem dX7_gain_1 : decode cX7_gain 1 = .ok (.iload_n 3, 1) := dk_29 (dk_at dksX7_gain_0 1 rfl rfl)
theorem dX7_gain_2 : decode cX7_gain 2 = .ok (.if_icmp .eq 21, 3) := dk_159 0 21 (dk_at dksX7_gain_0 2 rfl rfl)
theorem dX7_gain_5 : decode cX7_gain 5 = .ok (.aload_n 0, 1) := dk_42 (dk_at dksX7_gain_0 5 rfl rfl)
theorem dX7_gain_6 : decode cX7_gain 6 = .ok (.iload_n 1, 1) := dk_27 (dk_at dksX7_gain_0 6 rfl rfl)
theorem dX7_gain_7 : decode cX7_gain 7 = .ok (.iload_n 2, 1) := dk_28 (dk_at dksX7_gain_0 7 rfl rfl)
theorem dX7_gain_8 : decode cX7_gain 8 = .ok (.invokevirtual 364, 3) := dk_182 1 108 (dk_at dksX7_gain_0 8 rfl rfl)
theorem dX7_gain_11 : decode cX7_gain 11 = .ok (.ifCond .eq 12, 3) := dk_153 0 12 (dk_at dksX7_gain_0 11 rfl rfl)
theorem dX7_gain_14 : decode cX7_gain 14 = .ok (.aload_n 0, 1) := dk_42 (dk_at dksX7_gain_0 14 rfl rfl)
theorem dX7_gain_15 : decode cX7_gain 15 = .ok (.getfield 52, 3) := dk_180 0 52 (dk_at dksX7_gain_0 15 rfl rfl)
theorem dX7_gain_18 : decode cX7_gain 18 = .ok (.iload_n 2, 1) := dk_28 (dk_at dksX7_gain_0 18 rfl rfl)
theorem dX7_gain_19 : decode cX7_gain 19 = .ok (.iaload, 1) := dk_46 (dk_at dksX7_gain_0 19 rfl rfl)
theorem dX7_gain_20 : decode cX7_gain 20 = .ok (.goto 4, 3) := dk_167 0 4 (dk_at dksX7_gain_0 20 rfl rfl)
theorem dX7_gain_23 : decode cX7_gain 23 = .ok (.iconst 0, 1) := dk_3 (dk_at dksX7_gain_0 23 rfl rfl)
theorem dX7_gain_24 : decode cX7_gain 24 = .ok (.ireturn, 1) := dk_172 (dk_at dksX7_gain_1 0 rfl rfl)
abbrev cX7_season : ByteArray := prog_21_method_101_code
def yX7_season : MethodName := ⟨RX7, "season", "(III)I"⟩
def dkwX7_season_9 : List UInt8 := [167, 0, 15, 29, 4, 160, 0, 8, 21, 5, 167, 0, 5, 21, 6, 172]
abbrev dktX7_season_9 : List UInt8 := dkwX7_season_9 ++ []
def dkwX7_season_8 : List UInt8 := [167, 255, 132, 42, 182, 1, 130, 54, 6, 42, 42, 180, 0, 114, 3, 182, 1, 173, 29, 154, 0, 8, 21, 4]
abbrev dktX7_season_8 : List UInt8 := dkwX7_season_8 ++ dktX7_season_9
def dkwX7_season_7 : List UInt8 := [21, 6, 154, 0, 8, 21, 9, 167, 0, 10, 21, 5, 21, 9, 184, 0, 195, 54, 5, 132, 6, 1]
abbrev dktX7_season_7 : List UInt8 := dkwX7_season_7 ++ dktX7_season_8
def dkwX7_season_6 : List UInt8 := [180, 1, 65, 182, 1, 161, 42, 4, 182, 1, 203, 184, 1, 165, 54, 9, 21, 4, 21, 9, 96, 54, 4]
abbrev dktX7_season_6 : List UInt8 := dkwX7_season_6 ++ dktX7_season_7
def dkwX7_season_5 : List UInt8 := [42, 180, 0, 38, 3, 46, 182, 1, 238, 54, 8, 21, 7, 21, 8, 159, 0, 15, 42, 21, 7, 21, 8, 42]
abbrev dktX7_season_5 : List UInt8 := dkwX7_season_5 ++ dktX7_season_6
def dkwX7_season_4 : List UInt8 := [180, 0, 38, 3, 46, 182, 1, 238, 54, 7, 42, 180, 0, 38, 3, 46, 154, 0, 7, 3, 167, 0, 13, 42]
abbrev dktX7_season_4 : List UInt8 := dkwX7_season_4 ++ dktX7_season_5
def dkwX7_season_3 : List UInt8 := [89, 180, 1, 65, 4, 96, 181, 1, 65, 42, 180, 0, 38, 3, 46, 154, 0, 7, 3, 167, 0, 13, 42, 42]
abbrev dktX7_season_3 : List UInt8 := dkwX7_season_3 ++ dktX7_season_4
def dkwX7_season_2 : List UInt8 := [182, 1, 151, 42, 27, 181, 1, 230, 3, 54, 4, 3, 54, 5, 3, 54, 6, 21, 6, 28, 162, 0, 124, 42]
abbrev dktX7_season_2 : List UInt8 := dkwX7_season_2 ++ dktX7_season_3
def dkwX7_season_1 : List UInt8 := [133, 9, 20, 1, 236, 184, 0, 162, 154, 0, 9, 42, 5, 182, 1, 51, 172, 42, 42, 180, 0, 114, 3]
abbrev dktX7_season_1 : List UInt8 := dkwX7_season_1 ++ dktX7_season_2
def dkwX7_season_0 : List UInt8 := [42, 3, 181, 0, 159, 29, 133, 9, 20, 1, 234, 184, 0, 162, 154, 0, 9, 42, 4, 182, 1, 51, 172, 28]
abbrev dktX7_season_0 : List UInt8 := dkwX7_season_0 ++ dktX7_season_1
theorem dksX7_season_0 : cX7_season.data.toList.drop 0 = dktX7_season_0 := by decide +kernel
theorem dksX7_season_1 : cX7_season.data.toList.drop 24 = dktX7_season_1 := dk_seg dksX7_season_0 24 rfl rfl
theorem dksX7_season_2 : cX7_season.data.toList.drop 47 = dktX7_season_2 := dk_seg dksX7_season_1 23 rfl rfl
theorem dksX7_season_3 : cX7_season.data.toList.drop 71 = dktX7_season_3 := dk_seg dksX7_season_2 24 rfl rfl
theorem dksX7_season_4 : cX7_season.data.toList.drop 95 = dktX7_season_4 := dk_seg dksX7_season_3 24 rfl rfl
theorem dksX7_season_5 : cX7_season.data.toList.drop 119 = dktX7_season_5 := dk_seg dksX7_season_4 24 rfl rfl
theorem dksX7_season_6 : cX7_season.data.toList.drop 143 = dktX7_season_6 := dk_seg dksX7_season_5 24 rfl rfl
theorem dksX7_season_7 : cX7_season.data.toList.drop 166 = dktX7_season_7 := dk_seg dksX7_season_6 23 rfl rfl
theorem dksX7_season_8 : cX7_season.data.toList.drop 188 = dktX7_season_8 := dk_seg dksX7_season_7 22 rfl rfl
theorem dksX7_season_9 : cX7_season.data.toList.drop 212 = dktX7_season_9 := dk_seg dksX7_season_8 24 rfl rfl
theorem dX7_season_0 : decode cX7_season 0 = .ok (.aload_n 0, 1) := dk_42 (dk_at dksX7_season_0 0 rfl rfl)
theorem dX7_season_1 : decode cX7_season 1 = .ok (.iconst 0, 1) := dk_3 (dk_at dksX7_season_0 1 rfl rfl)
theorem dX7_season_2 : decode cX7_season 2 = .ok (.putfield 159, 3) := dk_181 0 159 (dk_at dksX7_season_0 2 rfl rfl)
theorem dX7_season_5 : decode cX7_season 5 = .ok (.iload_n 3, 1) := dk_29 (dk_at dksX7_season_0 5 rfl rfl)
theorem dX7_season_6 : decode cX7_season 6 = .ok (.i2l, 1) := dk_133 (dk_at dksX7_season_0 6 rfl rfl)
theorem dX7_season_7 : decode cX7_season 7 = .ok (.lconst 0, 1) := dk_9 (dk_at dksX7_season_0 7 rfl rfl)
theorem dX7_season_8 : decode cX7_season 8 = .ok (.ldc2_w 490, 3) := dk_20 1 234 (dk_at dksX7_season_0 8 rfl rfl)
theorem dX7_season_11 : decode cX7_season 11 = .ok (.invokestatic 162, 3) := dk_184 0 162 (dk_at dksX7_season_0 11 rfl rfl)
theorem dX7_season_14 : decode cX7_season 14 = .ok (.ifCond .ne 9, 3) := dk_154 0 9 (dk_at dksX7_season_0 14 rfl rfl)
theorem dX7_season_17 : decode cX7_season 17 = .ok (.aload_n 0, 1) := dk_42 (dk_at dksX7_season_0 17 rfl rfl)
theorem dX7_season_18 : decode cX7_season 18 = .ok (.iconst 1, 1) := dk_4 (dk_at dksX7_season_0 18 rfl rfl)
theorem dX7_season_19 : decode cX7_season 19 = .ok (.invokevirtual 307, 3) := dk_182 1 51 (dk_at dksX7_season_0 19 rfl rfl)
theorem dX7_season_22 : decode cX7_season 22 = .ok (.ireturn, 1) := dk_172 (dk_at dksX7_season_0 22 rfl rfl)
theorem dX7_season_23 : decode cX7_season 23 = .ok (.iload_n 2, 1) := dk_28 (dk_at dksX7_season_0 23 rfl rfl)
theorem dX7_season_24 : decode cX7_season 24 = .ok (.i2l, 1) := dk_133 (dk_at dksX7_season_1 0 rfl rfl)
theorem dX7_season_25 : decode cX7_season 25 = .ok (.lconst 0, 1) := dk_9 (dk_at dksX7_season_1 1 rfl rfl)
theorem dX7_season_26 : decode cX7_season 26 = .ok (.ldc2_w 492, 3) := dk_20 1 236 (dk_at dksX7_season_1 2 rfl rfl)
theorem dX7_season_29 : decode cX7_season 29 = .ok (.invokestatic 162, 3) := dk_184 0 162 (dk_at dksX7_season_1 5 rfl rfl)
theorem dX7_season_32 : decode cX7_season 32 = .ok (.ifCond .ne 9, 3) := dk_154 0 9 (dk_at dksX7_season_1 8 rfl rfl)
theorem dX7_season_35 : decode cX7_season 35 = .ok (.aload_n 0, 1) := dk_42 (dk_at dksX7_season_1 11 rfl rfl)
theorem dX7_season_36 : decode cX7_season 36 = .ok (.iconst 2, 1) := dk_5 (dk_at dksX7_season_1 12 rfl rfl)
theorem dX7_season_37 : decode cX7_season 37 = .ok (.invokevirtual 307, 3) := dk_182 1 51 (dk_at dksX7_season_1 13 rfl rfl)
theorem dX7_season_40 : decode cX7_season 40 = .ok (.ireturn, 1) := dk_172 (dk_at dksX7_season_1 16 rfl rfl)
theorem dX7_season_41 : decode cX7_season 41 = .ok (.aload_n 0, 1) := dk_42 (dk_at dksX7_season_1 17 rfl rfl)
theorem dX7_season_42 : decode cX7_season 42 = .ok (.aload_n 0, 1) := dk_42 (dk_at dksX7_season_1 18 rfl rfl)
theorem dX7_season_43 : decode cX7_season 43 = .ok (.getfield 114, 3) := dk_180 0 114 (dk_at dksX7_season_1 19 rfl rfl)
theorem dX7_season_46 : decode cX7_season 46 = .ok (.iconst 0, 1) := dk_3 (dk_at dksX7_season_1 22 rfl rfl)
theorem dX7_season_47 : decode cX7_season 47 = .ok (.invokevirtual 407, 3) := dk_182 1 151 (dk_at dksX7_season_2 0 rfl rfl)
theorem dX7_season_50 : decode cX7_season 50 = .ok (.aload_n 0, 1) := dk_42 (dk_at dksX7_season_2 3 rfl rfl)
theorem dX7_season_51 : decode cX7_season 51 = .ok (.iload_n 1, 1) := dk_27 (dk_at dksX7_season_2 4 rfl rfl)
theorem dX7_season_52 : decode cX7_season 52 = .ok (.putfield 486, 3) := dk_181 1 230 (dk_at dksX7_season_2 5 rfl rfl)
theorem dX7_season_55 : decode cX7_season 55 = .ok (.iconst 0, 1) := dk_3 (dk_at dksX7_season_2 8 rfl rfl)
theorem dX7_season_56 : decode cX7_season 56 = .ok (.istore 4, 2) := dk_54 4 (dk_at dksX7_season_2 9 rfl rfl)
theorem dX7_season_58 : decode cX7_season 58 = .ok (.iconst 0, 1) := dk_3 (dk_at dksX7_season_2 11 rfl rfl)
theorem dX7_season_59 : decode cX7_season 59 = .ok (.istore 5, 2) := dk_54 5 (dk_at dksX7_season_2 12 rfl rfl)
theorem dX7_season_61 : decode cX7_season 61 = .ok (.iconst 0, 1) := dk_3 (dk_at dksX7_season_2 14 rfl rfl)
theorem dX7_season_62 : decode cX7_season 62 = .ok (.istore 6, 2) := dk_54 6 (dk_at dksX7_season_2 15 rfl rfl)
theorem dX7_season_64 : decode cX7_season 64 = .ok (.iload 6, 2) := dk_21 6 (dk_at dksX7_season_2 17 rfl rfl)
theorem dX7_season_66 : decode cX7_season 66 = .ok (.iload_n 2, 1) := dk_28 (dk_at dksX7_season_2 19 rfl rfl)
theorem dX7_season_67 : decode cX7_season 67 = .ok (.if_icmp .ge 124, 3) := dk_162 0 124 (dk_at dksX7_season_2 20 rfl rfl)
theorem dX7_season_70 : decode cX7_season 70 = .ok (.aload_n 0, 1) := dk_42 (dk_at dksX7_season_2 23 rfl rfl)
theorem dX7_season_71 : decode cX7_season 71 = .ok (.dup, 1) := dk_89 (dk_at dksX7_season_3 0 rfl rfl)
theorem dX7_season_72 : decode cX7_season 72 = .ok (.getfield 321, 3) := dk_180 1 65 (dk_at dksX7_season_3 1 rfl rfl)
theorem dX7_season_75 : decode cX7_season 75 = .ok (.iconst 1, 1) := dk_4 (dk_at dksX7_season_3 4 rfl rfl)
theorem dX7_season_76 : decode cX7_season 76 = .ok (.iadd, 1) := dk_96 (dk_at dksX7_season_3 5 rfl rfl)
theorem dX7_season_77 : decode cX7_season 77 = .ok (.putfield 321, 3) := dk_181 1 65 (dk_at dksX7_season_3 6 rfl rfl)
theorem dX7_season_80 : decode cX7_season 80 = .ok (.aload_n 0, 1) := dk_42 (dk_at dksX7_season_3 9 rfl rfl)
theorem dX7_season_81 : decode cX7_season 81 = .ok (.getfield 38, 3) := dk_180 0 38 (dk_at dksX7_season_3 10 rfl rfl)
theorem dX7_season_84 : decode cX7_season 84 = .ok (.iconst 0, 1) := dk_3 (dk_at dksX7_season_3 13 rfl rfl)
theorem dX7_season_85 : decode cX7_season 85 = .ok (.iaload, 1) := dk_46 (dk_at dksX7_season_3 14 rfl rfl)
theorem dX7_season_86 : decode cX7_season 86 = .ok (.ifCond .ne 7, 3) := dk_154 0 7 (dk_at dksX7_season_3 15 rfl rfl)
theorem dX7_season_89 : decode cX7_season 89 = .ok (.iconst 0, 1) := dk_3 (dk_at dksX7_season_3 18 rfl rfl)
theorem dX7_season_90 : decode cX7_season 90 = .ok (.goto 13, 3) := dk_167 0 13 (dk_at dksX7_season_3 19 rfl rfl)
theorem dX7_season_93 : decode cX7_season 93 = .ok (.aload_n 0, 1) := dk_42 (dk_at dksX7_season_3 22 rfl rfl)
theorem dX7_season_94 : decode cX7_season 94 = .ok (.aload_n 0, 1) := dk_42 (dk_at dksX7_season_3 23 rfl rfl)
theorem dX7_season_95 : decode cX7_season 95 = .ok (.getfield 38, 3) := dk_180 0 38 (dk_at dksX7_season_4 0 rfl rfl)
theorem dX7_season_98 : decode cX7_season 98 = .ok (.iconst 0, 1) := dk_3 (dk_at dksX7_season_4 3 rfl rfl)
theorem dX7_season_99 : decode cX7_season 99 = .ok (.iaload, 1) := dk_46 (dk_at dksX7_season_4 4 rfl rfl)
theorem dX7_season_100 : decode cX7_season 100 = .ok (.invokevirtual 494, 3) := dk_182 1 238 (dk_at dksX7_season_4 5 rfl rfl)
theorem dX7_season_103 : decode cX7_season 103 = .ok (.istore 7, 2) := dk_54 7 (dk_at dksX7_season_4 8 rfl rfl)
theorem dX7_season_105 : decode cX7_season 105 = .ok (.aload_n 0, 1) := dk_42 (dk_at dksX7_season_4 10 rfl rfl)
theorem dX7_season_106 : decode cX7_season 106 = .ok (.getfield 38, 3) := dk_180 0 38 (dk_at dksX7_season_4 11 rfl rfl)
theorem dX7_season_109 : decode cX7_season 109 = .ok (.iconst 0, 1) := dk_3 (dk_at dksX7_season_4 14 rfl rfl)
theorem dX7_season_110 : decode cX7_season 110 = .ok (.iaload, 1) := dk_46 (dk_at dksX7_season_4 15 rfl rfl)
theorem dX7_season_111 : decode cX7_season 111 = .ok (.ifCond .ne 7, 3) := dk_154 0 7 (dk_at dksX7_season_4 16 rfl rfl)
theorem dX7_season_114 : decode cX7_season 114 = .ok (.iconst 0, 1) := dk_3 (dk_at dksX7_season_4 19 rfl rfl)
theorem dX7_season_115 : decode cX7_season 115 = .ok (.goto 13, 3) := dk_167 0 13 (dk_at dksX7_season_4 20 rfl rfl)
theorem dX7_season_118 : decode cX7_season 118 = .ok (.aload_n 0, 1) := dk_42 (dk_at dksX7_season_4 23 rfl rfl)
theorem dX7_season_119 : decode cX7_season 119 = .ok (.aload_n 0, 1) := dk_42 (dk_at dksX7_season_5 0 rfl rfl)
theorem dX7_season_120 : decode cX7_season 120 = .ok (.getfield 38, 3) := dk_180 0 38 (dk_at dksX7_season_5 1 rfl rfl)
theorem dX7_season_123 : decode cX7_season 123 = .ok (.iconst 0, 1) := dk_3 (dk_at dksX7_season_5 4 rfl rfl)
theorem dX7_season_124 : decode cX7_season 124 = .ok (.iaload, 1) := dk_46 (dk_at dksX7_season_5 5 rfl rfl)
theorem dX7_season_125 : decode cX7_season 125 = .ok (.invokevirtual 494, 3) := dk_182 1 238 (dk_at dksX7_season_5 6 rfl rfl)
theorem dX7_season_128 : decode cX7_season 128 = .ok (.istore 8, 2) := dk_54 8 (dk_at dksX7_season_5 9 rfl rfl)
theorem dX7_season_130 : decode cX7_season 130 = .ok (.iload 7, 2) := dk_21 7 (dk_at dksX7_season_5 11 rfl rfl)
theorem dX7_season_132 : decode cX7_season 132 = .ok (.iload 8, 2) := dk_21 8 (dk_at dksX7_season_5 13 rfl rfl)
theorem dX7_season_134 : decode cX7_season 134 = .ok (.if_icmp .eq 15, 3) := dk_159 0 15 (dk_at dksX7_season_5 15 rfl rfl)
theorem dX7_season_137 : decode cX7_season 137 = .ok (.aload_n 0, 1) := dk_42 (dk_at dksX7_season_5 18 rfl rfl)
theorem dX7_season_138 : decode cX7_season 138 = .ok (.iload 7, 2) := dk_21 7 (dk_at dksX7_season_5 19 rfl rfl)
theorem dX7_season_140 : decode cX7_season 140 = .ok (.iload 8, 2) := dk_21 8 (dk_at dksX7_season_5 21 rfl rfl)
theorem dX7_season_142 : decode cX7_season 142 = .ok (.aload_n 0, 1) := dk_42 (dk_at dksX7_season_5 23 rfl rfl)
theorem dX7_season_143 : decode cX7_season 143 = .ok (.getfield 321, 3) := dk_180 1 65 (dk_at dksX7_season_6 0 rfl rfl)
theorem dX7_season_146 : decode cX7_season 146 = .ok (.invokevirtual 417, 3) := dk_182 1 161 (dk_at dksX7_season_6 3 rfl rfl)
theorem dX7_season_149 : decode cX7_season 149 = .ok (.aload_n 0, 1) := dk_42 (dk_at dksX7_season_6 6 rfl rfl)
theorem dX7_season_150 : decode cX7_season 150 = .ok (.iconst 1, 1) := dk_4 (dk_at dksX7_season_6 7 rfl rfl)
theorem dX7_season_151 : decode cX7_season 151 = .ok (.invokevirtual 459, 3) := dk_182 1 203 (dk_at dksX7_season_6 8 rfl rfl)
theorem dX7_season_154 : decode cX7_season 154 = .ok (.invokestatic 421, 3) := dk_184 1 165 (dk_at dksX7_season_6 11 rfl rfl)
theorem dX7_season_157 : decode cX7_season 157 = .ok (.istore 9, 2) := dk_54 9 (dk_at dksX7_season_6 14 rfl rfl)
theorem dX7_season_159 : decode cX7_season 159 = .ok (.iload 4, 2) := dk_21 4 (dk_at dksX7_season_6 16 rfl rfl)
theorem dX7_season_161 : decode cX7_season 161 = .ok (.iload 9, 2) := dk_21 9 (dk_at dksX7_season_6 18 rfl rfl)
theorem dX7_season_163 : decode cX7_season 163 = .ok (.iadd, 1) := dk_96 (dk_at dksX7_season_6 20 rfl rfl)
theorem dX7_season_164 : decode cX7_season 164 = .ok (.istore 4, 2) := dk_54 4 (dk_at dksX7_season_6 21 rfl rfl)
theorem dX7_season_166 : decode cX7_season 166 = .ok (.iload 6, 2) := dk_21 6 (dk_at dksX7_season_7 0 rfl rfl)
theorem dX7_season_168 : decode cX7_season 168 = .ok (.ifCond .ne 8, 3) := dk_154 0 8 (dk_at dksX7_season_7 2 rfl rfl)
theorem dX7_season_171 : decode cX7_season 171 = .ok (.iload 9, 2) := dk_21 9 (dk_at dksX7_season_7 5 rfl rfl)
theorem dX7_season_173 : decode cX7_season 173 = .ok (.goto 10, 3) := dk_167 0 10 (dk_at dksX7_season_7 7 rfl rfl)
theorem dX7_season_176 : decode cX7_season 176 = .ok (.iload 5, 2) := dk_21 5 (dk_at dksX7_season_7 10 rfl rfl)
theorem dX7_season_178 : decode cX7_season 178 = .ok (.iload 9, 2) := dk_21 9 (dk_at dksX7_season_7 12 rfl rfl)
theorem dX7_season_180 : decode cX7_season 180 = .ok (.invokestatic 195, 3) := dk_184 0 195 (dk_at dksX7_season_7 14 rfl rfl)
theorem dX7_season_183 : decode cX7_season 183 = .ok (.istore 5, 2) := dk_54 5 (dk_at dksX7_season_7 17 rfl rfl)
theorem dX7_season_185 : decode cX7_season 185 = .ok (.iinc 6 1, 3) := dk_132 6 1 (dk_at dksX7_season_7 19 rfl rfl)
theorem dX7_season_188 : decode cX7_season 188 = .ok (.goto (-124), 3) := dk_167 255 132 (dk_at dksX7_season_8 0 rfl rfl)
theorem dX7_season_191 : decode cX7_season 191 = .ok (.aload_n 0, 1) := dk_42 (dk_at dksX7_season_8 3 rfl rfl)
theorem dX7_season_192 : decode cX7_season 192 = .ok (.invokevirtual 386, 3) := dk_182 1 130 (dk_at dksX7_season_8 4 rfl rfl)
theorem dX7_season_195 : decode cX7_season 195 = .ok (.istore 6, 2) := dk_54 6 (dk_at dksX7_season_8 7 rfl rfl)
theorem dX7_season_197 : decode cX7_season 197 = .ok (.aload_n 0, 1) := dk_42 (dk_at dksX7_season_8 9 rfl rfl)
theorem dX7_season_198 : decode cX7_season 198 = .ok (.aload_n 0, 1) := dk_42 (dk_at dksX7_season_8 10 rfl rfl)
theorem dX7_season_199 : decode cX7_season 199 = .ok (.getfield 114, 3) := dk_180 0 114 (dk_at dksX7_season_8 11 rfl rfl)
theorem dX7_season_202 : decode cX7_season 202 = .ok (.iconst 0, 1) := dk_3 (dk_at dksX7_season_8 14 rfl rfl)
theorem dX7_season_203 : decode cX7_season 203 = .ok (.invokevirtual 429, 3) := dk_182 1 173 (dk_at dksX7_season_8 15 rfl rfl)
theorem dX7_season_206 : decode cX7_season 206 = .ok (.iload_n 3, 1) := dk_29 (dk_at dksX7_season_8 18 rfl rfl)
theorem dX7_season_207 : decode cX7_season 207 = .ok (.ifCond .ne 8, 3) := dk_154 0 8 (dk_at dksX7_season_8 19 rfl rfl)
theorem dX7_season_210 : decode cX7_season 210 = .ok (.iload 4, 2) := dk_21 4 (dk_at dksX7_season_8 22 rfl rfl)
theorem dX7_season_212 : decode cX7_season 212 = .ok (.goto 15, 3) := dk_167 0 15 (dk_at dksX7_season_9 0 rfl rfl)
theorem dX7_season_215 : decode cX7_season 215 = .ok (.iload_n 3, 1) := dk_29 (dk_at dksX7_season_9 3 rfl rfl)
theorem dX7_season_216 : decode cX7_season 216 = .ok (.iconst 1, 1) := dk_4 (dk_at dksX7_season_9 4 rfl rfl)
theorem dX7_season_217 : decode cX7_season 217 = .ok (.if_icmp .ne 8, 3) := dk_160 0 8 (dk_at dksX7_season_9 5 rfl rfl)
theorem dX7_season_220 : decode cX7_season 220 = .ok (.iload 5, 2) := dk_21 5 (dk_at dksX7_season_9 8 rfl rfl)
theorem dX7_season_222 : decode cX7_season 222 = .ok (.goto 5, 3) := dk_167 0 5 (dk_at dksX7_season_9 10 rfl rfl)
theorem dX7_season_225 : decode cX7_season 225 = .ok (.iload 6, 2) := dk_21 6 (dk_at dksX7_season_9 13 rfl rfl)
theorem dX7_season_227 : decode cX7_season 227 = .ok (.ireturn, 1) := dk_172 (dk_at dksX7_season_9 15 rfl rfl)
abbrev cX7_drawOf : ByteArray := prog_21_method_100_code
def yX7_drawOf : MethodName := ⟨RX7, "drawOf", "(I)I"⟩
def dkwX7_drawOf_1 : List UInt8 := [17, 127, 255, 126, 27, 112, 172]
abbrev dktX7_drawOf_1 : List UInt8 := dkwX7_drawOf_1 ++ []
def dkwX7_drawOf_0 : List UInt8 := [42, 42, 180, 1, 230, 19, 1, 233, 104, 17, 48, 57, 96, 181, 1, 230, 42, 180, 1, 230, 16, 16, 122]
abbrev dktX7_drawOf_0 : List UInt8 := dkwX7_drawOf_0 ++ dktX7_drawOf_1
theorem dksX7_drawOf_0 : cX7_drawOf.data.toList.drop 0 = dktX7_drawOf_0 := by decide +kernel
theorem dksX7_drawOf_1 : cX7_drawOf.data.toList.drop 23 = dktX7_drawOf_1 := dk_seg dksX7_drawOf_0 23 rfl rfl
theorem dX7_drawOf_0 : decode cX7_drawOf 0 = .ok (.aload_n 0, 1) := dk_42 (dk_at dksX7_drawOf_0 0 rfl rfl)
theorem dX7_drawOf_1 : decode cX7_drawOf 1 = .ok (.aload_n 0, 1) := dk_42 (dk_at dksX7_drawOf_0 1 rfl rfl)
theorem dX7_drawOf_2 : decode cX7_drawOf 2 = .ok (.getfield 486, 3) := dk_180 1 230 (dk_at dksX7_drawOf_0 2 rfl rfl)
theorem dX7_drawOf_5 : decode cX7_drawOf 5 = .ok (.ldc_w 489, 3) := dk_19 1 233 (dk_at dksX7_drawOf_0 5 rfl rfl)
theorem dX7_drawOf_8 : decode cX7_drawOf 8 = .ok (.imul, 1) := dk_104 (dk_at dksX7_drawOf_0 8 rfl rfl)
theorem dX7_drawOf_9 : decode cX7_drawOf 9 = .ok (.sipush 12345, 3) := dk_17 48 57 (dk_at dksX7_drawOf_0 9 rfl rfl)
theorem dX7_drawOf_12 : decode cX7_drawOf 12 = .ok (.iadd, 1) := dk_96 (dk_at dksX7_drawOf_0 12 rfl rfl)
theorem dX7_drawOf_13 : decode cX7_drawOf 13 = .ok (.putfield 486, 3) := dk_181 1 230 (dk_at dksX7_drawOf_0 13 rfl rfl)
theorem dX7_drawOf_16 : decode cX7_drawOf 16 = .ok (.aload_n 0, 1) := dk_42 (dk_at dksX7_drawOf_0 16 rfl rfl)
theorem dX7_drawOf_17 : decode cX7_drawOf 17 = .ok (.getfield 486, 3) := dk_180 1 230 (dk_at dksX7_drawOf_0 17 rfl rfl)
theorem dX7_drawOf_20 : decode cX7_drawOf 20 = .ok (.bipush 16, 2) := dk_16 16 (dk_at dksX7_drawOf_0 20 rfl rfl)
theorem dX7_drawOf_22 : decode cX7_drawOf 22 = .ok (.ishr, 1) := dk_122 (dk_at dksX7_drawOf_0 22 rfl rfl)
theorem dX7_drawOf_23 : decode cX7_drawOf 23 = .ok (.sipush 32767, 3) := dk_17 127 255 (dk_at dksX7_drawOf_1 0 rfl rfl)
theorem dX7_drawOf_26 : decode cX7_drawOf 26 = .ok (.iand, 1) := dk_126 (dk_at dksX7_drawOf_1 3 rfl rfl)
theorem dX7_drawOf_27 : decode cX7_drawOf 27 = .ok (.iload_n 1, 1) := dk_27 (dk_at dksX7_drawOf_1 4 rfl rfl)
theorem dX7_drawOf_28 : decode cX7_drawOf 28 = .ok (.irem, 1) := dk_112 (dk_at dksX7_drawOf_1 5 rfl rfl)
theorem dX7_drawOf_29 : decode cX7_drawOf 29 = .ok (.ireturn, 1) := dk_172 (dk_at dksX7_drawOf_1 6 rfl rfl)
abbrev cX7_image : ByteArray := prog_21_method_103_code
def yX7_image : MethodName := ⟨RX7, "image", "()V"⟩
def dkwX7_image_5 : List UInt8 := [180, 0, 73, 184, 1, 250, 177]
abbrev dktX7_image_5 : List UInt8 := dkwX7_image_5 ++ []
def dkwX7_image_4 : List UInt8 := [180, 0, 129, 184, 1, 250, 42, 180, 0, 153, 42, 180, 0, 132, 184, 1, 250, 42, 180, 0, 156, 42]
abbrev dktX7_image_4 : List UInt8 := dkwX7_image_4 ++ dktX7_image_5
def dkwX7_image_3 : List UInt8 := [180, 0, 123, 184, 1, 250, 42, 180, 0, 147, 42, 180, 0, 126, 184, 1, 250, 42, 180, 0, 150, 42]
abbrev dktX7_image_3 : List UInt8 := dkwX7_image_3 ++ dktX7_image_4
def dkwX7_image_2 : List UInt8 := [42, 180, 0, 88, 184, 1, 250, 42, 180, 0, 141, 42, 180, 0, 120, 184, 1, 250, 42, 180, 0, 144, 42]
abbrev dktX7_image_2 : List UInt8 := dkwX7_image_2 ++ dktX7_image_3
def dkwX7_image_1 : List UInt8 := [181, 1, 244, 42, 42, 180, 1, 77, 181, 1, 247, 42, 42, 180, 0, 135, 3, 182, 1, 151, 42, 180, 0, 138]
abbrev dktX7_image_1 : List UInt8 := dkwX7_image_1 ++ dktX7_image_2
def dkwX7_image_0 : List UInt8 := [42, 3, 181, 0, 159, 42, 4, 181, 1, 84, 42, 42, 180, 1, 71, 181, 1, 241, 42, 42, 180, 1, 74]
abbrev dktX7_image_0 : List UInt8 := dkwX7_image_0 ++ dktX7_image_1
theorem dksX7_image_0 : cX7_image.data.toList.drop 0 = dktX7_image_0 := by decide +kernel
theorem dksX7_image_1 : cX7_image.data.toList.drop 23 = dktX7_image_1 := dk_seg dksX7_image_0 23 rfl rfl
theorem dksX7_image_2 : cX7_image.data.toList.drop 47 = dktX7_image_2 := dk_seg dksX7_image_1 24 rfl rfl
theorem dksX7_image_3 : cX7_image.data.toList.drop 70 = dktX7_image_3 := dk_seg dksX7_image_2 23 rfl rfl
theorem dksX7_image_4 : cX7_image.data.toList.drop 92 = dktX7_image_4 := dk_seg dksX7_image_3 22 rfl rfl
theorem dksX7_image_5 : cX7_image.data.toList.drop 114 = dktX7_image_5 := dk_seg dksX7_image_4 22 rfl rfl
theorem dX7_image_0 : decode cX7_image 0 = .ok (.aload_n 0, 1) := dk_42 (dk_at dksX7_image_0 0 rfl rfl)
theorem dX7_image_1 : decode cX7_image 1 = .ok (.iconst 0, 1) := dk_3 (dk_at dksX7_image_0 1 rfl rfl)
theorem dX7_image_2 : decode cX7_image 2 = .ok (.putfield 159, 3) := dk_181 0 159 (dk_at dksX7_image_0 2 rfl rfl)
theorem dX7_image_5 : decode cX7_image 5 = .ok (.aload_n 0, 1) := dk_42 (dk_at dksX7_image_0 5 rfl rfl)
theorem dX7_image_6 : decode cX7_image 6 = .ok (.iconst 1, 1) := dk_4 (dk_at dksX7_image_0 6 rfl rfl)
theorem dX7_image_7 : decode cX7_image 7 = .ok (.putfield 340, 3) := dk_181 1 84 (dk_at dksX7_image_0 7 rfl rfl)
theorem dX7_image_10 : decode cX7_image 10 = .ok (.aload_n 0, 1) := dk_42 (dk_at dksX7_image_0 10 rfl rfl)
theorem dX7_image_11 : decode cX7_image 11 = .ok (.aload_n 0, 1) := dk_42 (dk_at dksX7_image_0 11 rfl rfl)
theorem dX7_image_12 : decode cX7_image 12 = .ok (.getfield 327, 3) := dk_180 1 71 (dk_at dksX7_image_0 12 rfl rfl)
theorem dX7_image_15 : decode cX7_image 15 = .ok (.putfield 497, 3) := dk_181 1 241 (dk_at dksX7_image_0 15 rfl rfl)
theorem dX7_image_18 : decode cX7_image 18 = .ok (.aload_n 0, 1) := dk_42 (dk_at dksX7_image_0 18 rfl rfl)
theorem dX7_image_19 : decode cX7_image 19 = .ok (.aload_n 0, 1) := dk_42 (dk_at dksX7_image_0 19 rfl rfl)
theorem dX7_image_20 : decode cX7_image 20 = .ok (.getfield 330, 3) := dk_180 1 74 (dk_at dksX7_image_0 20 rfl rfl)
theorem dX7_image_23 : decode cX7_image 23 = .ok (.putfield 500, 3) := dk_181 1 244 (dk_at dksX7_image_1 0 rfl rfl)
theorem dX7_image_26 : decode cX7_image 26 = .ok (.aload_n 0, 1) := dk_42 (dk_at dksX7_image_1 3 rfl rfl)
theorem dX7_image_27 : decode cX7_image 27 = .ok (.aload_n 0, 1) := dk_42 (dk_at dksX7_image_1 4 rfl rfl)
theorem dX7_image_28 : decode cX7_image 28 = .ok (.getfield 333, 3) := dk_180 1 77 (dk_at dksX7_image_1 5 rfl rfl)
theorem dX7_image_31 : decode cX7_image 31 = .ok (.putfield 503, 3) := dk_181 1 247 (dk_at dksX7_image_1 8 rfl rfl)
theorem dX7_image_34 : decode cX7_image 34 = .ok (.aload_n 0, 1) := dk_42 (dk_at dksX7_image_1 11 rfl rfl)
theorem dX7_image_35 : decode cX7_image 35 = .ok (.aload_n 0, 1) := dk_42 (dk_at dksX7_image_1 12 rfl rfl)
theorem dX7_image_36 : decode cX7_image 36 = .ok (.getfield 135, 3) := dk_180 0 135 (dk_at dksX7_image_1 13 rfl rfl)
theorem dX7_image_39 : decode cX7_image 39 = .ok (.iconst 0, 1) := dk_3 (dk_at dksX7_image_1 16 rfl rfl)
theorem dX7_image_40 : decode cX7_image 40 = .ok (.invokevirtual 407, 3) := dk_182 1 151 (dk_at dksX7_image_1 17 rfl rfl)
theorem dX7_image_43 : decode cX7_image 43 = .ok (.aload_n 0, 1) := dk_42 (dk_at dksX7_image_1 20 rfl rfl)
theorem dX7_image_44 : decode cX7_image 44 = .ok (.getfield 138, 3) := dk_180 0 138 (dk_at dksX7_image_1 21 rfl rfl)
theorem dX7_image_47 : decode cX7_image 47 = .ok (.aload_n 0, 1) := dk_42 (dk_at dksX7_image_2 0 rfl rfl)
theorem dX7_image_48 : decode cX7_image 48 = .ok (.getfield 88, 3) := dk_180 0 88 (dk_at dksX7_image_2 1 rfl rfl)
theorem dX7_image_51 : decode cX7_image 51 = .ok (.invokestatic 506, 3) := dk_184 1 250 (dk_at dksX7_image_2 4 rfl rfl)
theorem dX7_image_54 : decode cX7_image 54 = .ok (.aload_n 0, 1) := dk_42 (dk_at dksX7_image_2 7 rfl rfl)
theorem dX7_image_55 : decode cX7_image 55 = .ok (.getfield 141, 3) := dk_180 0 141 (dk_at dksX7_image_2 8 rfl rfl)
theorem dX7_image_58 : decode cX7_image 58 = .ok (.aload_n 0, 1) := dk_42 (dk_at dksX7_image_2 11 rfl rfl)
theorem dX7_image_59 : decode cX7_image 59 = .ok (.getfield 120, 3) := dk_180 0 120 (dk_at dksX7_image_2 12 rfl rfl)
theorem dX7_image_62 : decode cX7_image 62 = .ok (.invokestatic 506, 3) := dk_184 1 250 (dk_at dksX7_image_2 15 rfl rfl)
theorem dX7_image_65 : decode cX7_image 65 = .ok (.aload_n 0, 1) := dk_42 (dk_at dksX7_image_2 18 rfl rfl)
theorem dX7_image_66 : decode cX7_image 66 = .ok (.getfield 144, 3) := dk_180 0 144 (dk_at dksX7_image_2 19 rfl rfl)
theorem dX7_image_69 : decode cX7_image 69 = .ok (.aload_n 0, 1) := dk_42 (dk_at dksX7_image_2 22 rfl rfl)
theorem dX7_image_70 : decode cX7_image 70 = .ok (.getfield 123, 3) := dk_180 0 123 (dk_at dksX7_image_3 0 rfl rfl)
theorem dX7_image_73 : decode cX7_image 73 = .ok (.invokestatic 506, 3) := dk_184 1 250 (dk_at dksX7_image_3 3 rfl rfl)
theorem dX7_image_76 : decode cX7_image 76 = .ok (.aload_n 0, 1) := dk_42 (dk_at dksX7_image_3 6 rfl rfl)
theorem dX7_image_77 : decode cX7_image 77 = .ok (.getfield 147, 3) := dk_180 0 147 (dk_at dksX7_image_3 7 rfl rfl)
theorem dX7_image_80 : decode cX7_image 80 = .ok (.aload_n 0, 1) := dk_42 (dk_at dksX7_image_3 10 rfl rfl)
theorem dX7_image_81 : decode cX7_image 81 = .ok (.getfield 126, 3) := dk_180 0 126 (dk_at dksX7_image_3 11 rfl rfl)
theorem dX7_image_84 : decode cX7_image 84 = .ok (.invokestatic 506, 3) := dk_184 1 250 (dk_at dksX7_image_3 14 rfl rfl)
theorem dX7_image_87 : decode cX7_image 87 = .ok (.aload_n 0, 1) := dk_42 (dk_at dksX7_image_3 17 rfl rfl)
theorem dX7_image_88 : decode cX7_image 88 = .ok (.getfield 150, 3) := dk_180 0 150 (dk_at dksX7_image_3 18 rfl rfl)
theorem dX7_image_91 : decode cX7_image 91 = .ok (.aload_n 0, 1) := dk_42 (dk_at dksX7_image_3 21 rfl rfl)
theorem dX7_image_92 : decode cX7_image 92 = .ok (.getfield 129, 3) := dk_180 0 129 (dk_at dksX7_image_4 0 rfl rfl)
theorem dX7_image_95 : decode cX7_image 95 = .ok (.invokestatic 506, 3) := dk_184 1 250 (dk_at dksX7_image_4 3 rfl rfl)
theorem dX7_image_98 : decode cX7_image 98 = .ok (.aload_n 0, 1) := dk_42 (dk_at dksX7_image_4 6 rfl rfl)
theorem dX7_image_99 : decode cX7_image 99 = .ok (.getfield 153, 3) := dk_180 0 153 (dk_at dksX7_image_4 7 rfl rfl)
theorem dX7_image_102 : decode cX7_image 102 = .ok (.aload_n 0, 1) := dk_42 (dk_at dksX7_image_4 10 rfl rfl)
theorem dX7_image_103 : decode cX7_image 103 = .ok (.getfield 132, 3) := dk_180 0 132 (dk_at dksX7_image_4 11 rfl rfl)
theorem dX7_image_106 : decode cX7_image 106 = .ok (.invokestatic 506, 3) := dk_184 1 250 (dk_at dksX7_image_4 14 rfl rfl)
theorem dX7_image_109 : decode cX7_image 109 = .ok (.aload_n 0, 1) := dk_42 (dk_at dksX7_image_4 17 rfl rfl)
theorem dX7_image_110 : decode cX7_image 110 = .ok (.getfield 156, 3) := dk_180 0 156 (dk_at dksX7_image_4 18 rfl rfl)
theorem dX7_image_113 : decode cX7_image 113 = .ok (.aload_n 0, 1) := dk_42 (dk_at dksX7_image_4 21 rfl rfl)
theorem dX7_image_114 : decode cX7_image 114 = .ok (.getfield 73, 3) := dk_180 0 73 (dk_at dksX7_image_5 0 rfl rfl)
theorem dX7_image_117 : decode cX7_image 117 = .ok (.invokestatic 506, 3) := dk_184 1 250 (dk_at dksX7_image_5 3 rfl rfl)
theorem dX7_image_120 : decode cX7_image 120 = .ok (.return_, 1) := dk_177 (dk_at dksX7_image_5 6 rfl rfl)
abbrev cX7_be : ByteArray := prog_21_method_102_code
def yX7_be : MethodName := ⟨RX7, "be", "([I[I)V"⟩
def dkwX7_be_0 : List UInt8 := [3, 61, 28, 42, 190, 162, 0, 15, 42, 28, 43, 28, 46, 79, 132, 2, 1, 167, 255, 241, 177]
abbrev dktX7_be_0 : List UInt8 := dkwX7_be_0 ++ []
theorem dksX7_be_0 : cX7_be.data.toList.drop 0 = dktX7_be_0 := by decide +kernel
theorem dX7_be_0 : decode cX7_be 0 = .ok (.iconst 0, 1) := dk_3 (dk_at dksX7_be_0 0 rfl rfl)
theorem dX7_be_1 : decode cX7_be 1 = .ok (.istore_n 2, 1) := dk_61 (dk_at dksX7_be_0 1 rfl rfl)
theorem dX7_be_2 : decode cX7_be 2 = .ok (.iload_n 2, 1) := dk_28 (dk_at dksX7_be_0 2 rfl rfl)
theorem dX7_be_3 : decode cX7_be 3 = .ok (.aload_n 0, 1) := dk_42 (dk_at dksX7_be_0 3 rfl rfl)
theorem dX7_be_4 : decode cX7_be 4 = .ok (.arraylength, 1) := dk_190 (dk_at dksX7_be_0 4 rfl rfl)
theorem dX7_be_5 : decode cX7_be 5 = .ok (.if_icmp .ge 15, 3) := dk_162 0 15 (dk_at dksX7_be_0 5 rfl rfl)
theorem dX7_be_8 : decode cX7_be 8 = .ok (.aload_n 0, 1) := dk_42 (dk_at dksX7_be_0 8 rfl rfl)
theorem dX7_be_9 : decode cX7_be 9 = .ok (.iload_n 2, 1) := dk_28 (dk_at dksX7_be_0 9 rfl rfl)
theorem dX7_be_10 : decode cX7_be 10 = .ok (.aload_n 1, 1) := dk_43 (dk_at dksX7_be_0 10 rfl rfl)
theorem dX7_be_11 : decode cX7_be 11 = .ok (.iload_n 2, 1) := dk_28 (dk_at dksX7_be_0 11 rfl rfl)
theorem dX7_be_12 : decode cX7_be 12 = .ok (.iaload, 1) := dk_46 (dk_at dksX7_be_0 12 rfl rfl)
theorem dX7_be_13 : decode cX7_be 13 = .ok (.iastore, 1) := dk_79 (dk_at dksX7_be_0 13 rfl rfl)
theorem dX7_be_14 : decode cX7_be 14 = .ok (.iinc 2 1, 3) := dk_132 2 1 (dk_at dksX7_be_0 14 rfl rfl)
theorem dX7_be_17 : decode cX7_be 17 = .ok (.goto (-15), 3) := dk_167 255 241 (dk_at dksX7_be_0 17 rfl rfl)
theorem dX7_be_20 : decode cX7_be 20 = .ok (.return_, 1) := dk_177 (dk_at dksX7_be_0 20 rfl rfl)
abbrev cX7_restore : ByteArray := prog_21_method_104_code
def yX7_restore : MethodName := ⟨RX7, "restore", "()Z"⟩
def dkwX7_restore_5 : List UInt8 := [180, 0, 73, 42, 180, 0, 156, 184, 1, 250, 4, 172]
abbrev dktX7_restore_5 : List UInt8 := dkwX7_restore_5 ++ []
def dkwX7_restore_4 : List UInt8 := [180, 0, 129, 42, 180, 0, 150, 184, 1, 250, 42, 180, 0, 132, 42, 180, 0, 153, 184, 1, 250, 42]
abbrev dktX7_restore_4 : List UInt8 := dkwX7_restore_4 ++ dktX7_restore_5
def dkwX7_restore_3 : List UInt8 := [180, 0, 123, 42, 180, 0, 144, 184, 1, 250, 42, 180, 0, 126, 42, 180, 0, 147, 184, 1, 250, 42]
abbrev dktX7_restore_3 : List UInt8 := dkwX7_restore_3 ++ dktX7_restore_4
def dkwX7_restore_2 : List UInt8 := [180, 0, 88, 42, 180, 0, 138, 184, 1, 250, 42, 180, 0, 120, 42, 180, 0, 141, 184, 1, 250, 42]
abbrev dktX7_restore_2 : List UInt8 := dkwX7_restore_2 ++ dktX7_restore_3
def dkwX7_restore_1 : List UInt8 := [180, 1, 244, 181, 1, 74, 42, 42, 180, 1, 247, 181, 1, 77, 42, 42, 180, 0, 135, 3, 182, 1, 173, 42]
abbrev dktX7_restore_1 : List UInt8 := dkwX7_restore_1 ++ dktX7_restore_2
def dkwX7_restore_0 : List UInt8 := [42, 3, 181, 0, 159, 42, 180, 1, 84, 154, 0, 5, 3, 172, 42, 42, 180, 1, 241, 181, 1, 71, 42, 42]
abbrev dktX7_restore_0 : List UInt8 := dkwX7_restore_0 ++ dktX7_restore_1
theorem dksX7_restore_0 : cX7_restore.data.toList.drop 0 = dktX7_restore_0 := by decide +kernel
theorem dksX7_restore_1 : cX7_restore.data.toList.drop 24 = dktX7_restore_1 := dk_seg dksX7_restore_0 24 rfl rfl
theorem dksX7_restore_2 : cX7_restore.data.toList.drop 48 = dktX7_restore_2 := dk_seg dksX7_restore_1 24 rfl rfl
theorem dksX7_restore_3 : cX7_restore.data.toList.drop 70 = dktX7_restore_3 := dk_seg dksX7_restore_2 22 rfl rfl
theorem dksX7_restore_4 : cX7_restore.data.toList.drop 92 = dktX7_restore_4 := dk_seg dksX7_restore_3 22 rfl rfl
theorem dksX7_restore_5 : cX7_restore.data.toList.drop 114 = dktX7_restore_5 := dk_seg dksX7_restore_4 22 rfl rfl
theorem dX7_restore_0 : decode cX7_restore 0 = .ok (.aload_n 0, 1) := dk_42 (dk_at dksX7_restore_0 0 rfl rfl)
theorem dX7_restore_1 : decode cX7_restore 1 = .ok (.iconst 0, 1) := dk_3 (dk_at dksX7_restore_0 1 rfl rfl)
theorem dX7_restore_2 : decode cX7_restore 2 = .ok (.putfield 159, 3) := dk_181 0 159 (dk_at dksX7_restore_0 2 rfl rfl)
theorem dX7_restore_5 : decode cX7_restore 5 = .ok (.aload_n 0, 1) := dk_42 (dk_at dksX7_restore_0 5 rfl rfl)
theorem dX7_restore_6 : decode cX7_restore 6 = .ok (.getfield 340, 3) := dk_180 1 84 (dk_at dksX7_restore_0 6 rfl rfl)
theorem dX7_restore_9 : decode cX7_restore 9 = .ok (.ifCond .ne 5, 3) := dk_154 0 5 (dk_at dksX7_restore_0 9 rfl rfl)
theorem dX7_restore_12 : decode cX7_restore 12 = .ok (.iconst 0, 1) := dk_3 (dk_at dksX7_restore_0 12 rfl rfl)
theorem dX7_restore_13 : decode cX7_restore 13 = .ok (.ireturn, 1) := dk_172 (dk_at dksX7_restore_0 13 rfl rfl)
theorem dX7_restore_14 : decode cX7_restore 14 = .ok (.aload_n 0, 1) := dk_42 (dk_at dksX7_restore_0 14 rfl rfl)
theorem dX7_restore_15 : decode cX7_restore 15 = .ok (.aload_n 0, 1) := dk_42 (dk_at dksX7_restore_0 15 rfl rfl)
theorem dX7_restore_16 : decode cX7_restore 16 = .ok (.getfield 497, 3) := dk_180 1 241 (dk_at dksX7_restore_0 16 rfl rfl)
theorem dX7_restore_19 : decode cX7_restore 19 = .ok (.putfield 327, 3) := dk_181 1 71 (dk_at dksX7_restore_0 19 rfl rfl)
theorem dX7_restore_22 : decode cX7_restore 22 = .ok (.aload_n 0, 1) := dk_42 (dk_at dksX7_restore_0 22 rfl rfl)
theorem dX7_restore_23 : decode cX7_restore 23 = .ok (.aload_n 0, 1) := dk_42 (dk_at dksX7_restore_0 23 rfl rfl)
theorem dX7_restore_24 : decode cX7_restore 24 = .ok (.getfield 500, 3) := dk_180 1 244 (dk_at dksX7_restore_1 0 rfl rfl)
theorem dX7_restore_27 : decode cX7_restore 27 = .ok (.putfield 330, 3) := dk_181 1 74 (dk_at dksX7_restore_1 3 rfl rfl)
theorem dX7_restore_30 : decode cX7_restore 30 = .ok (.aload_n 0, 1) := dk_42 (dk_at dksX7_restore_1 6 rfl rfl)
theorem dX7_restore_31 : decode cX7_restore 31 = .ok (.aload_n 0, 1) := dk_42 (dk_at dksX7_restore_1 7 rfl rfl)
theorem dX7_restore_32 : decode cX7_restore 32 = .ok (.getfield 503, 3) := dk_180 1 247 (dk_at dksX7_restore_1 8 rfl rfl)
theorem dX7_restore_35 : decode cX7_restore 35 = .ok (.putfield 333, 3) := dk_181 1 77 (dk_at dksX7_restore_1 11 rfl rfl)
theorem dX7_restore_38 : decode cX7_restore 38 = .ok (.aload_n 0, 1) := dk_42 (dk_at dksX7_restore_1 14 rfl rfl)
theorem dX7_restore_39 : decode cX7_restore 39 = .ok (.aload_n 0, 1) := dk_42 (dk_at dksX7_restore_1 15 rfl rfl)
theorem dX7_restore_40 : decode cX7_restore 40 = .ok (.getfield 135, 3) := dk_180 0 135 (dk_at dksX7_restore_1 16 rfl rfl)
theorem dX7_restore_43 : decode cX7_restore 43 = .ok (.iconst 0, 1) := dk_3 (dk_at dksX7_restore_1 19 rfl rfl)
theorem dX7_restore_44 : decode cX7_restore 44 = .ok (.invokevirtual 429, 3) := dk_182 1 173 (dk_at dksX7_restore_1 20 rfl rfl)
theorem dX7_restore_47 : decode cX7_restore 47 = .ok (.aload_n 0, 1) := dk_42 (dk_at dksX7_restore_1 23 rfl rfl)
theorem dX7_restore_48 : decode cX7_restore 48 = .ok (.getfield 88, 3) := dk_180 0 88 (dk_at dksX7_restore_2 0 rfl rfl)
theorem dX7_restore_51 : decode cX7_restore 51 = .ok (.aload_n 0, 1) := dk_42 (dk_at dksX7_restore_2 3 rfl rfl)
theorem dX7_restore_52 : decode cX7_restore 52 = .ok (.getfield 138, 3) := dk_180 0 138 (dk_at dksX7_restore_2 4 rfl rfl)
theorem dX7_restore_55 : decode cX7_restore 55 = .ok (.invokestatic 506, 3) := dk_184 1 250 (dk_at dksX7_restore_2 7 rfl rfl)
theorem dX7_restore_58 : decode cX7_restore 58 = .ok (.aload_n 0, 1) := dk_42 (dk_at dksX7_restore_2 10 rfl rfl)
theorem dX7_restore_59 : decode cX7_restore 59 = .ok (.getfield 120, 3) := dk_180 0 120 (dk_at dksX7_restore_2 11 rfl rfl)
theorem dX7_restore_62 : decode cX7_restore 62 = .ok (.aload_n 0, 1) := dk_42 (dk_at dksX7_restore_2 14 rfl rfl)
theorem dX7_restore_63 : decode cX7_restore 63 = .ok (.getfield 141, 3) := dk_180 0 141 (dk_at dksX7_restore_2 15 rfl rfl)
theorem dX7_restore_66 : decode cX7_restore 66 = .ok (.invokestatic 506, 3) := dk_184 1 250 (dk_at dksX7_restore_2 18 rfl rfl)
theorem dX7_restore_69 : decode cX7_restore 69 = .ok (.aload_n 0, 1) := dk_42 (dk_at dksX7_restore_2 21 rfl rfl)
theorem dX7_restore_70 : decode cX7_restore 70 = .ok (.getfield 123, 3) := dk_180 0 123 (dk_at dksX7_restore_3 0 rfl rfl)
theorem dX7_restore_73 : decode cX7_restore 73 = .ok (.aload_n 0, 1) := dk_42 (dk_at dksX7_restore_3 3 rfl rfl)
theorem dX7_restore_74 : decode cX7_restore 74 = .ok (.getfield 144, 3) := dk_180 0 144 (dk_at dksX7_restore_3 4 rfl rfl)
theorem dX7_restore_77 : decode cX7_restore 77 = .ok (.invokestatic 506, 3) := dk_184 1 250 (dk_at dksX7_restore_3 7 rfl rfl)
theorem dX7_restore_80 : decode cX7_restore 80 = .ok (.aload_n 0, 1) := dk_42 (dk_at dksX7_restore_3 10 rfl rfl)
theorem dX7_restore_81 : decode cX7_restore 81 = .ok (.getfield 126, 3) := dk_180 0 126 (dk_at dksX7_restore_3 11 rfl rfl)
theorem dX7_restore_84 : decode cX7_restore 84 = .ok (.aload_n 0, 1) := dk_42 (dk_at dksX7_restore_3 14 rfl rfl)
theorem dX7_restore_85 : decode cX7_restore 85 = .ok (.getfield 147, 3) := dk_180 0 147 (dk_at dksX7_restore_3 15 rfl rfl)
theorem dX7_restore_88 : decode cX7_restore 88 = .ok (.invokestatic 506, 3) := dk_184 1 250 (dk_at dksX7_restore_3 18 rfl rfl)
theorem dX7_restore_91 : decode cX7_restore 91 = .ok (.aload_n 0, 1) := dk_42 (dk_at dksX7_restore_3 21 rfl rfl)
theorem dX7_restore_92 : decode cX7_restore 92 = .ok (.getfield 129, 3) := dk_180 0 129 (dk_at dksX7_restore_4 0 rfl rfl)
theorem dX7_restore_95 : decode cX7_restore 95 = .ok (.aload_n 0, 1) := dk_42 (dk_at dksX7_restore_4 3 rfl rfl)
theorem dX7_restore_96 : decode cX7_restore 96 = .ok (.getfield 150, 3) := dk_180 0 150 (dk_at dksX7_restore_4 4 rfl rfl)
theorem dX7_restore_99 : decode cX7_restore 99 = .ok (.invokestatic 506, 3) := dk_184 1 250 (dk_at dksX7_restore_4 7 rfl rfl)
theorem dX7_restore_102 : decode cX7_restore 102 = .ok (.aload_n 0, 1) := dk_42 (dk_at dksX7_restore_4 10 rfl rfl)
theorem dX7_restore_103 : decode cX7_restore 103 = .ok (.getfield 132, 3) := dk_180 0 132 (dk_at dksX7_restore_4 11 rfl rfl)
theorem dX7_restore_106 : decode cX7_restore 106 = .ok (.aload_n 0, 1) := dk_42 (dk_at dksX7_restore_4 14 rfl rfl)
theorem dX7_restore_107 : decode cX7_restore 107 = .ok (.getfield 153, 3) := dk_180 0 153 (dk_at dksX7_restore_4 15 rfl rfl)
theorem dX7_restore_110 : decode cX7_restore 110 = .ok (.invokestatic 506, 3) := dk_184 1 250 (dk_at dksX7_restore_4 18 rfl rfl)
theorem dX7_restore_113 : decode cX7_restore 113 = .ok (.aload_n 0, 1) := dk_42 (dk_at dksX7_restore_4 21 rfl rfl)
theorem dX7_restore_114 : decode cX7_restore 114 = .ok (.getfield 73, 3) := dk_180 0 73 (dk_at dksX7_restore_5 0 rfl rfl)
theorem dX7_restore_117 : decode cX7_restore 117 = .ok (.aload_n 0, 1) := dk_42 (dk_at dksX7_restore_5 3 rfl rfl)
theorem dX7_restore_118 : decode cX7_restore 118 = .ok (.getfield 156, 3) := dk_180 0 156 (dk_at dksX7_restore_5 4 rfl rfl)
theorem dX7_restore_121 : decode cX7_restore 121 = .ok (.invokestatic 506, 3) := dk_184 1 250 (dk_at dksX7_restore_5 7 rfl rfl)
theorem dX7_restore_124 : decode cX7_restore 124 = .ok (.iconst 1, 1) := dk_4 (dk_at dksX7_restore_5 10 rfl rfl)
theorem dX7_restore_125 : decode cX7_restore 125 = .ok (.ireturn, 1) := dk_172 (dk_at dksX7_restore_5 11 rfl rfl)
theorem q130 : (Jvm.Cond.initialized "StrangeKnivesModel") ∈ lw_all := lw_g (lw_at lw_m1 27 rfl) rfl
theorem q646 : (Jvm.Cond.selects "StrangeKnivesModel" ({ cls := "java/lang/Object", name := "getClass", desc := "()Ljava/lang/Class;" } : Jvm.MethodName) ({ cls := "java/lang/Object", name := "getClass", desc := "()Ljava/lang/Class;" } : Jvm.MethodName)) ∈ lw_all := lw_g (lw_at lw_m3 63 rfl) rfl
theorem q1666 : (Jvm.Cond.instantiable "StrangeKnivesModel" (69 : Nat)) ∈ lw_all := lw_g (lw_at lw_m7 123 rfl) rfl
theorem q1668 : (Jvm.Cond.instanceMethod ({ cls := "StrangeKnivesModel", name := "<init>", desc := "()V" } : Jvm.MethodName)) ∈ lw_all := lw_g (lw_at lw_m7 125 rfl) rfl
theorem q1669 : (Jvm.Cond.code ({ cls := "StrangeKnivesModel", name := "<init>", desc := "()V" } : Jvm.MethodName) prog_21_method_1_code (1 : Nat) (Option.none : Option Jvm.ClassFile.FieldType)) ∈ lw_all := lw_g (lw_at lw_m7 126 rfl) rfl
theorem q1670 : (Jvm.Cond.methodLink "StrangeKnivesModel" (3 : Nat) ({ cls := "java/lang/Object", name := "<init>", desc := "()V" } : Jvm.MethodName)) ∈ lw_all := lw_g (lw_at lw_m7 127 rfl) rfl
theorem q1671 : (Jvm.Cond.classLink "StrangeKnivesModel" (9 : Nat) "java/lang/String") ∈ lw_all := lw_g (lw_at lw_m7 128 rfl) rfl
theorem q1673 : (Jvm.Cond.stringRef "StrangeKnivesModel" (11 : Nat) "plain") ∈ lw_tbl := lw_at lw_m7 130 rfl
theorem q1674 : (Jvm.Cond.stringRef "StrangeKnivesModel" (13 : Nat) "child") ∈ lw_tbl := lw_at lw_m7 131 rfl
theorem q1675 : (Jvm.Cond.stringRef "StrangeKnivesModel" (15 : Nat) "deaf") ∈ lw_tbl := lw_at lw_m7 132 rfl
theorem q1676 : (Jvm.Cond.stringRef "StrangeKnivesModel" (17 : Nat) "twin") ∈ lw_tbl := lw_at lw_m7 133 rfl
theorem q1677 : (Jvm.Cond.stringRef "StrangeKnivesModel" (23 : Nat) "slice") ∈ lw_tbl := lw_at lw_m7 134 rfl
theorem q1678 : (Jvm.Cond.stringRef "StrangeKnivesModel" (25 : Nat) "slices") ∈ lw_tbl := lw_at lw_m7 135 rfl
theorem q1679 : (Jvm.Cond.stringRef "StrangeKnivesModel" (27 : Nat) "size") ∈ lw_tbl := lw_at lw_m7 136 rfl
theorem q1680 : (Jvm.Cond.stringRef "StrangeKnivesModel" (29 : Nat) "kind") ∈ lw_tbl := lw_at lw_m7 137 rfl
theorem q1681 : (Jvm.Cond.stringRef "StrangeKnivesModel" (31 : Nat) "hunger") ∈ lw_tbl := lw_at lw_m7 138 rfl
theorem q1682 : (Jvm.Cond.stringRef "StrangeKnivesModel" (33 : Nat) "thanked") ∈ lw_tbl := lw_at lw_m7 139 rfl
theorem q1683 : (Jvm.Cond.fieldLink "StrangeKnivesModel" (19 : Nat) "StrangeKnivesModel" "kinds" "[Ljava/lang/String;") ∈ lw_all := lw_g (lw_at lw_m7 140 rfl) rfl
theorem q1684 : (Jvm.Cond.fieldLink "StrangeKnivesModel" (35 : Nat) "StrangeKnivesModel" "values" "[Ljava/lang/String;") ∈ lw_all := lw_g (lw_at lw_m7 141 rfl) rfl
theorem q1685 : (Jvm.Cond.fieldLink "StrangeKnivesModel" (159 : Nat) "StrangeKnivesModel" "code" "I") ∈ lw_all := lw_g (lw_at lw_m7 142 rfl) rfl
theorem q1686 : (Jvm.Cond.fieldLink "StrangeKnivesModel" (38 : Nat) "StrangeKnivesModel" "told" "[I") ∈ lw_all := lw_g (lw_at lw_m7 143 rfl) rfl
theorem q1687 : (Jvm.Cond.fieldLink "StrangeKnivesModel" (42 : Nat) "StrangeKnivesModel" "kind" "[I") ∈ lw_all := lw_g (lw_at lw_m7 144 rfl) rfl
theorem q1688 : (Jvm.Cond.fieldLink "StrangeKnivesModel" (44 : Nat) "StrangeKnivesModel" "house" "[I") ∈ lw_all := lw_g (lw_at lw_m7 145 rfl) rfl
theorem q1689 : (Jvm.Cond.fieldLink "StrangeKnivesModel" (47 : Nat) "StrangeKnivesModel" "hunger" "[I") ∈ lw_all := lw_g (lw_at lw_m7 146 rfl) rfl
theorem q1690 : (Jvm.Cond.fieldLink "StrangeKnivesModel" (49 : Nat) "StrangeKnivesModel" "loafAt" "[I") ∈ lw_all := lw_g (lw_at lw_m7 147 rfl) rfl
theorem q1691 : (Jvm.Cond.fieldLink "StrangeKnivesModel" (52 : Nat) "StrangeKnivesModel" "loafSize" "[I") ∈ lw_all := lw_g (lw_at lw_m7 148 rfl) rfl
theorem q1692 : (Jvm.Cond.fieldLink "StrangeKnivesModel" (55 : Nat) "StrangeKnivesModel" "baked" "[I") ∈ lw_all := lw_g (lw_at lw_m7 149 rfl) rfl
theorem q1693 : (Jvm.Cond.fieldLink "StrangeKnivesModel" (58 : Nat) "StrangeKnivesModel" "fresh" "[I") ∈ lw_all := lw_g (lw_at lw_m7 150 rfl) rfl
theorem q1694 : (Jvm.Cond.fieldLink "StrangeKnivesModel" (61 : Nat) "StrangeKnivesModel" "eatMany" "[I") ∈ lw_all := lw_g (lw_at lw_m7 151 rfl) rfl
theorem q1695 : (Jvm.Cond.fieldLink "StrangeKnivesModel" (64 : Nat) "StrangeKnivesModel" "eaters" "[I") ∈ lw_all := lw_g (lw_at lw_m7 152 rfl) rfl
theorem q1696 : (Jvm.Cond.fieldLink "StrangeKnivesModel" (67 : Nat) "StrangeKnivesModel" "metDay" "[I") ∈ lw_all := lw_g (lw_at lw_m7 153 rfl) rfl
theorem q1697 : (Jvm.Cond.fieldLink "StrangeKnivesModel" (70 : Nat) "StrangeKnivesModel" "signs" "[I") ∈ lw_all := lw_g (lw_at lw_m7 154 rfl) rfl
theorem q1698 : (Jvm.Cond.fieldLink "StrangeKnivesModel" (73 : Nat) "StrangeKnivesModel" "status" "[I") ∈ lw_all := lw_g (lw_at lw_m7 155 rfl) rfl
theorem q1699 : (Jvm.Cond.fieldLink "StrangeKnivesModel" (76 : Nat) "StrangeKnivesModel" "tape" "[I") ∈ lw_all := lw_g (lw_at lw_m7 156 rfl) rfl
theorem q1700 : (Jvm.Cond.fieldLink "StrangeKnivesModel" (166 : Nat) "StrangeKnivesModel" "taped" "I") ∈ lw_all := lw_g (lw_at lw_m7 157 rfl) rfl
theorem q1701 : (Jvm.Cond.fieldLink "StrangeKnivesModel" (171 : Nat) "StrangeKnivesModel" "at" "I") ∈ lw_all := lw_g (lw_at lw_m7 158 rfl) rfl
theorem q1702 : (Jvm.Cond.fieldLink "StrangeKnivesModel" (169 : Nat) "StrangeKnivesModel" "size" "I") ∈ lw_all := lw_g (lw_at lw_m7 159 rfl) rfl
theorem q1703 : (Jvm.Cond.fieldLink "StrangeKnivesModel" (181 : Nat) "StrangeKnivesModel" "token" "I") ∈ lw_all := lw_g (lw_at lw_m7 160 rfl) rfl
theorem q1704 : (Jvm.Cond.fieldLink "StrangeKnivesModel" (191 : Nat) "StrangeKnivesModel" "number" "I") ∈ lw_all := lw_g (lw_at lw_m7 161 rfl) rfl
theorem q1705 : (Jvm.Cond.fieldLink "StrangeKnivesModel" (178 : Nat) "StrangeKnivesModel" "begins" "I") ∈ lw_all := lw_g (lw_at lw_m7 162 rfl) rfl
theorem q1706 : (Jvm.Cond.fieldLink "StrangeKnivesModel" (204 : Nat) "StrangeKnivesModel" "stops" "I") ∈ lw_all := lw_g (lw_at lw_m7 163 rfl) rfl
theorem q1707 : (Jvm.Cond.fieldLink "StrangeKnivesModel" (207 : Nat) "StrangeKnivesModel" "bad" "I") ∈ lw_all := lw_g (lw_at lw_m7 164 rfl) rfl
theorem q1708 : (Jvm.Cond.fieldLink "StrangeKnivesModel" (210 : Nat) "StrangeKnivesModel" "badPlace" "I") ∈ lw_all := lw_g (lw_at lw_m7 165 rfl) rfl
theorem q1709 : (Jvm.Cond.fieldLink "StrangeKnivesModel" (79 : Nat) "StrangeKnivesModel" "faultPlace" "I") ∈ lw_all := lw_g (lw_at lw_m7 166 rfl) rfl
theorem q1710 : (Jvm.Cond.fieldLink "StrangeKnivesModel" (83 : Nat) "StrangeKnivesModel" "cutBy" "[I") ∈ lw_all := lw_g (lw_at lw_m7 167 rfl) rfl
theorem q1711 : (Jvm.Cond.fieldLink "StrangeKnivesModel" (86 : Nat) "StrangeKnivesModel" "thanked" "[I") ∈ lw_all := lw_g (lw_at lw_m7 168 rfl) rfl
theorem q1712 : (Jvm.Cond.fieldLink "StrangeKnivesModel" (88 : Nat) "StrangeKnivesModel" "past" "[I") ∈ lw_all := lw_g (lw_at lw_m7 169 rfl) rfl
theorem q1713 : (Jvm.Cond.fieldLink "StrangeKnivesModel" (321 : Nat) "StrangeKnivesModel" "today" "I") ∈ lw_all := lw_g (lw_at lw_m7 170 rfl) rfl
theorem q1714 : (Jvm.Cond.fieldLink "StrangeKnivesModel" (324 : Nat) "StrangeKnivesModel" "hour" "I") ∈ lw_all := lw_g (lw_at lw_m7 171 rfl) rfl
theorem q1715 : (Jvm.Cond.fieldLink "StrangeKnivesModel" (327 : Nat) "StrangeKnivesModel" "acts" "I") ∈ lw_all := lw_g (lw_at lw_m7 172 rfl) rfl
theorem q1716 : (Jvm.Cond.fieldLink "StrangeKnivesModel" (330 : Nat) "StrangeKnivesModel" "seen" "I") ∈ lw_all := lw_g (lw_at lw_m7 173 rfl) rfl
theorem q1717 : (Jvm.Cond.fieldLink "StrangeKnivesModel" (333 : Nat) "StrangeKnivesModel" "balked" "I") ∈ lw_all := lw_g (lw_at lw_m7 174 rfl) rfl
theorem q1718 : (Jvm.Cond.fieldLink "StrangeKnivesModel" (91 : Nat) "StrangeKnivesModel" "asked" "[I") ∈ lw_all := lw_g (lw_at lw_m7 175 rfl) rfl
theorem q1719 : (Jvm.Cond.fieldLink "StrangeKnivesModel" (94 : Nat) "StrangeKnivesModel" "stack" "[I") ∈ lw_all := lw_g (lw_at lw_m7 176 rfl) rfl
theorem q1720 : (Jvm.Cond.fieldLink "StrangeKnivesModel" (97 : Nat) "StrangeKnivesModel" "slices" "[I") ∈ lw_all := lw_g (lw_at lw_m7 177 rfl) rfl
theorem q1721 : (Jvm.Cond.fieldLink "StrangeKnivesModel" (99 : Nat) "StrangeKnivesModel" "unitOf" "[I") ∈ lw_all := lw_g (lw_at lw_m7 178 rfl) rfl
theorem q1722 : (Jvm.Cond.fieldLink "StrangeKnivesModel" (102 : Nat) "StrangeKnivesModel" "got" "[I") ∈ lw_all := lw_g (lw_at lw_m7 179 rfl) rfl
theorem q1723 : (Jvm.Cond.fieldLink "StrangeKnivesModel" (371 : Nat) "StrangeKnivesModel" "sliceMany" "I") ∈ lw_all := lw_g (lw_at lw_m7 180 rfl) rfl
theorem q1724 : (Jvm.Cond.fieldLink "StrangeKnivesModel" (383 : Nat) "StrangeKnivesModel" "crumbs" "I") ∈ lw_all := lw_g (lw_at lw_m7 181 rfl) rfl
theorem q1725 : (Jvm.Cond.fieldLink "StrangeKnivesModel" (105 : Nat) "StrangeKnivesModel" "rowTry" "[I") ∈ lw_all := lw_g (lw_at lw_m7 182 rfl) rfl
theorem q1726 : (Jvm.Cond.fieldLink "StrangeKnivesModel" (108 : Nat) "StrangeKnivesModel" "rowKept" "[I") ∈ lw_all := lw_g (lw_at lw_m7 183 rfl) rfl
theorem q1727 : (Jvm.Cond.fieldLink "StrangeKnivesModel" (444 : Nat) "StrangeKnivesModel" "leastHouses" "I") ∈ lw_all := lw_g (lw_at lw_m7 184 rfl) rfl
theorem q1728 : (Jvm.Cond.fieldLink "StrangeKnivesModel" (336 : Nat) "StrangeKnivesModel" "isKept" "Z") ∈ lw_all := lw_g (lw_at lw_m7 185 rfl) rfl
theorem q1729 : (Jvm.Cond.fieldLink "StrangeKnivesModel" (441 : Nat) "StrangeKnivesModel" "isFound" "Z") ∈ lw_all := lw_g (lw_at lw_m7 186 rfl) rfl
theorem q1730 : (Jvm.Cond.fieldLink "StrangeKnivesModel" (111 : Nat) "StrangeKnivesModel" "rowWas" "[I") ∈ lw_all := lw_g (lw_at lw_m7 187 rfl) rfl
theorem q1731 : (Jvm.Cond.fieldLink "StrangeKnivesModel" (114 : Nat) "StrangeKnivesModel" "rowThen" "[I") ∈ lw_all := lw_g (lw_at lw_m7 188 rfl) rfl
theorem q1732 : (Jvm.Cond.fieldLink "StrangeKnivesModel" (117 : Nat) "StrangeKnivesModel" "helps" "[I") ∈ lw_all := lw_g (lw_at lw_m7 189 rfl) rfl
theorem q1733 : (Jvm.Cond.fieldLink "StrangeKnivesModel" (463 : Nat) "StrangeKnivesModel" "helpTried" "I") ∈ lw_all := lw_g (lw_at lw_m7 190 rfl) rfl
theorem q1734 : (Jvm.Cond.fieldLink "StrangeKnivesModel" (120 : Nat) "StrangeKnivesModel" "seenLoaf" "[I") ∈ lw_all := lw_g (lw_at lw_m7 191 rfl) rfl
theorem q1735 : (Jvm.Cond.fieldLink "StrangeKnivesModel" (123 : Nat) "StrangeKnivesModel" "seenAt" "[I") ∈ lw_all := lw_g (lw_at lw_m7 192 rfl) rfl
theorem q1736 : (Jvm.Cond.fieldLink "StrangeKnivesModel" (126 : Nat) "StrangeKnivesModel" "seenMuch" "[I") ∈ lw_all := lw_g (lw_at lw_m7 193 rfl) rfl
theorem q1737 : (Jvm.Cond.fieldLink "StrangeKnivesModel" (129 : Nat) "StrangeKnivesModel" "balkWho" "[I") ∈ lw_all := lw_g (lw_at lw_m7 194 rfl) rfl
theorem q1738 : (Jvm.Cond.fieldLink "StrangeKnivesModel" (132 : Nat) "StrangeKnivesModel" "balkLoaf" "[I") ∈ lw_all := lw_g (lw_at lw_m7 195 rfl) rfl
theorem q1739 : (Jvm.Cond.fieldLink "StrangeKnivesModel" (486 : Nat) "StrangeKnivesModel" "seedNow" "I") ∈ lw_all := lw_g (lw_at lw_m7 196 rfl) rfl
theorem q1740 : (Jvm.Cond.fieldLink "StrangeKnivesModel" (340 : Nat) "StrangeKnivesModel" "hasImage" "Z") ∈ lw_all := lw_g (lw_at lw_m7 197 rfl) rfl
theorem q1741 : (Jvm.Cond.fieldLink "StrangeKnivesModel" (497 : Nat) "StrangeKnivesModel" "actsThen" "I") ∈ lw_all := lw_g (lw_at lw_m7 198 rfl) rfl
theorem q1742 : (Jvm.Cond.fieldLink "StrangeKnivesModel" (500 : Nat) "StrangeKnivesModel" "seenThen" "I") ∈ lw_all := lw_g (lw_at lw_m7 199 rfl) rfl
theorem q1743 : (Jvm.Cond.fieldLink "StrangeKnivesModel" (503 : Nat) "StrangeKnivesModel" "balkedThen" "I") ∈ lw_all := lw_g (lw_at lw_m7 200 rfl) rfl
theorem q1744 : (Jvm.Cond.fieldLink "StrangeKnivesModel" (135 : Nat) "StrangeKnivesModel" "imageRow" "[I") ∈ lw_all := lw_g (lw_at lw_m7 201 rfl) rfl
theorem q1745 : (Jvm.Cond.fieldLink "StrangeKnivesModel" (138 : Nat) "StrangeKnivesModel" "pastThen" "[I") ∈ lw_all := lw_g (lw_at lw_m7 202 rfl) rfl
theorem q1746 : (Jvm.Cond.fieldLink "StrangeKnivesModel" (141 : Nat) "StrangeKnivesModel" "seenLoafThen" "[I") ∈ lw_all := lw_g (lw_at lw_m7 203 rfl) rfl
theorem q1747 : (Jvm.Cond.fieldLink "StrangeKnivesModel" (144 : Nat) "StrangeKnivesModel" "seenAtThen" "[I") ∈ lw_all := lw_g (lw_at lw_m7 204 rfl) rfl
theorem q1748 : (Jvm.Cond.fieldLink "StrangeKnivesModel" (147 : Nat) "StrangeKnivesModel" "seenMuchThen" "[I") ∈ lw_all := lw_g (lw_at lw_m7 205 rfl) rfl
theorem q1749 : (Jvm.Cond.fieldLink "StrangeKnivesModel" (150 : Nat) "StrangeKnivesModel" "balkWhoThen" "[I") ∈ lw_all := lw_g (lw_at lw_m7 206 rfl) rfl
theorem q1750 : (Jvm.Cond.fieldLink "StrangeKnivesModel" (153 : Nat) "StrangeKnivesModel" "balkLoafThen" "[I") ∈ lw_all := lw_g (lw_at lw_m7 207 rfl) rfl
theorem q1751 : (Jvm.Cond.fieldLink "StrangeKnivesModel" (156 : Nat) "StrangeKnivesModel" "statusThen" "[I") ∈ lw_all := lw_g (lw_at lw_m7 208 rfl) rfl
theorem q1752 : (Jvm.Cond.laysFinal "StrangeKnivesModel" "StrangeKnivesModel" "kinds" "[Ljava/lang/String;") ∈ lw_all := lw_g (lw_at lw_m7 209 rfl) rfl
theorem q1753 : (Jvm.Cond.soleField "StrangeKnivesModel" "kinds") ∈ lw_all := lw_g (lw_at lw_m7 210 rfl) rfl
theorem q1754 : (Jvm.Cond.laysFinal "StrangeKnivesModel" "StrangeKnivesModel" "values" "[Ljava/lang/String;") ∈ lw_all := lw_g (lw_at lw_m7 211 rfl) rfl
theorem q1755 : (Jvm.Cond.soleField "StrangeKnivesModel" "values") ∈ lw_all := lw_g (lw_at lw_m7 212 rfl) rfl
theorem q1756 : (Jvm.Cond.lays "StrangeKnivesModel" "StrangeKnivesModel" "code" "I") ∈ lw_all := lw_g (lw_at lw_m7 213 rfl) rfl
theorem q1757 : (Jvm.Cond.soleField "StrangeKnivesModel" "code") ∈ lw_all := lw_g (lw_at lw_m7 214 rfl) rfl
theorem q1758 : (Jvm.Cond.laysFinal "StrangeKnivesModel" "StrangeKnivesModel" "told" "[I") ∈ lw_all := lw_g (lw_at lw_m7 215 rfl) rfl
theorem q1759 : (Jvm.Cond.soleField "StrangeKnivesModel" "told") ∈ lw_all := lw_g (lw_at lw_m7 216 rfl) rfl
theorem q1760 : (Jvm.Cond.laysFinal "StrangeKnivesModel" "StrangeKnivesModel" "kind" "[I") ∈ lw_all := lw_g (lw_at lw_m7 217 rfl) rfl
theorem q1761 : (Jvm.Cond.soleField "StrangeKnivesModel" "kind") ∈ lw_all := lw_g (lw_at lw_m7 218 rfl) rfl
theorem q1762 : (Jvm.Cond.laysFinal "StrangeKnivesModel" "StrangeKnivesModel" "house" "[I") ∈ lw_all := lw_g (lw_at lw_m7 219 rfl) rfl
theorem q1763 : (Jvm.Cond.soleField "StrangeKnivesModel" "house") ∈ lw_all := lw_g (lw_at lw_m7 220 rfl) rfl
theorem q1764 : (Jvm.Cond.laysFinal "StrangeKnivesModel" "StrangeKnivesModel" "hunger" "[I") ∈ lw_all := lw_g (lw_at lw_m7 221 rfl) rfl
theorem q1765 : (Jvm.Cond.soleField "StrangeKnivesModel" "hunger") ∈ lw_all := lw_g (lw_at lw_m7 222 rfl) rfl
theorem q1766 : (Jvm.Cond.laysFinal "StrangeKnivesModel" "StrangeKnivesModel" "loafAt" "[I") ∈ lw_all := lw_g (lw_at lw_m7 223 rfl) rfl
theorem q1767 : (Jvm.Cond.soleField "StrangeKnivesModel" "loafAt") ∈ lw_all := lw_g (lw_at lw_m7 224 rfl) rfl
theorem q1768 : (Jvm.Cond.laysFinal "StrangeKnivesModel" "StrangeKnivesModel" "loafSize" "[I") ∈ lw_all := lw_g (lw_at lw_m7 225 rfl) rfl
theorem q1769 : (Jvm.Cond.soleField "StrangeKnivesModel" "loafSize") ∈ lw_all := lw_g (lw_at lw_m7 226 rfl) rfl
theorem q1770 : (Jvm.Cond.laysFinal "StrangeKnivesModel" "StrangeKnivesModel" "baked" "[I") ∈ lw_all := lw_g (lw_at lw_m7 227 rfl) rfl
theorem q1771 : (Jvm.Cond.soleField "StrangeKnivesModel" "baked") ∈ lw_all := lw_g (lw_at lw_m7 228 rfl) rfl
theorem q1772 : (Jvm.Cond.laysFinal "StrangeKnivesModel" "StrangeKnivesModel" "fresh" "[I") ∈ lw_all := lw_g (lw_at lw_m7 229 rfl) rfl
theorem q1773 : (Jvm.Cond.soleField "StrangeKnivesModel" "fresh") ∈ lw_all := lw_g (lw_at lw_m7 230 rfl) rfl
theorem q1774 : (Jvm.Cond.laysFinal "StrangeKnivesModel" "StrangeKnivesModel" "eatMany" "[I") ∈ lw_all := lw_g (lw_at lw_m7 231 rfl) rfl
theorem q1775 : (Jvm.Cond.soleField "StrangeKnivesModel" "eatMany") ∈ lw_all := lw_g (lw_at lw_m7 232 rfl) rfl
theorem q1776 : (Jvm.Cond.laysFinal "StrangeKnivesModel" "StrangeKnivesModel" "eaters" "[I") ∈ lw_all := lw_g (lw_at lw_m7 233 rfl) rfl
theorem q1777 : (Jvm.Cond.soleField "StrangeKnivesModel" "eaters") ∈ lw_all := lw_g (lw_at lw_m7 234 rfl) rfl
theorem q1778 : (Jvm.Cond.laysFinal "StrangeKnivesModel" "StrangeKnivesModel" "metDay" "[I") ∈ lw_all := lw_g (lw_at lw_m7 235 rfl) rfl
theorem q1779 : (Jvm.Cond.soleField "StrangeKnivesModel" "metDay") ∈ lw_all := lw_g (lw_at lw_m7 236 rfl) rfl
theorem q1780 : (Jvm.Cond.laysFinal "StrangeKnivesModel" "StrangeKnivesModel" "signs" "[I") ∈ lw_all := lw_g (lw_at lw_m7 237 rfl) rfl
theorem q1781 : (Jvm.Cond.soleField "StrangeKnivesModel" "signs") ∈ lw_all := lw_g (lw_at lw_m7 238 rfl) rfl
theorem q1782 : (Jvm.Cond.laysFinal "StrangeKnivesModel" "StrangeKnivesModel" "status" "[I") ∈ lw_all := lw_g (lw_at lw_m7 239 rfl) rfl
theorem q1783 : (Jvm.Cond.soleField "StrangeKnivesModel" "status") ∈ lw_all := lw_g (lw_at lw_m8 0 rfl) rfl
theorem q1784 : (Jvm.Cond.laysFinal "StrangeKnivesModel" "StrangeKnivesModel" "tape" "[I") ∈ lw_all := lw_g (lw_at lw_m8 1 rfl) rfl
theorem q1785 : (Jvm.Cond.soleField "StrangeKnivesModel" "tape") ∈ lw_all := lw_g (lw_at lw_m8 2 rfl) rfl
theorem q1786 : (Jvm.Cond.lays "StrangeKnivesModel" "StrangeKnivesModel" "taped" "I") ∈ lw_all := lw_g (lw_at lw_m8 3 rfl) rfl
theorem q1787 : (Jvm.Cond.soleField "StrangeKnivesModel" "taped") ∈ lw_all := lw_g (lw_at lw_m8 4 rfl) rfl
theorem q1788 : (Jvm.Cond.lays "StrangeKnivesModel" "StrangeKnivesModel" "at" "I") ∈ lw_all := lw_g (lw_at lw_m8 5 rfl) rfl
theorem q1789 : (Jvm.Cond.soleField "StrangeKnivesModel" "at") ∈ lw_all := lw_g (lw_at lw_m8 6 rfl) rfl
theorem q1790 : (Jvm.Cond.lays "StrangeKnivesModel" "StrangeKnivesModel" "size" "I") ∈ lw_all := lw_g (lw_at lw_m8 7 rfl) rfl
theorem q1791 : (Jvm.Cond.soleField "StrangeKnivesModel" "size") ∈ lw_all := lw_g (lw_at lw_m8 8 rfl) rfl
theorem q1792 : (Jvm.Cond.lays "StrangeKnivesModel" "StrangeKnivesModel" "token" "I") ∈ lw_all := lw_g (lw_at lw_m8 9 rfl) rfl
theorem q1793 : (Jvm.Cond.soleField "StrangeKnivesModel" "token") ∈ lw_all := lw_g (lw_at lw_m8 10 rfl) rfl
theorem q1794 : (Jvm.Cond.lays "StrangeKnivesModel" "StrangeKnivesModel" "number" "I") ∈ lw_all := lw_g (lw_at lw_m8 11 rfl) rfl
theorem q1795 : (Jvm.Cond.soleField "StrangeKnivesModel" "number") ∈ lw_all := lw_g (lw_at lw_m8 12 rfl) rfl
theorem q1796 : (Jvm.Cond.lays "StrangeKnivesModel" "StrangeKnivesModel" "begins" "I") ∈ lw_all := lw_g (lw_at lw_m8 13 rfl) rfl
theorem q1797 : (Jvm.Cond.soleField "StrangeKnivesModel" "begins") ∈ lw_all := lw_g (lw_at lw_m8 14 rfl) rfl
theorem q1798 : (Jvm.Cond.lays "StrangeKnivesModel" "StrangeKnivesModel" "stops" "I") ∈ lw_all := lw_g (lw_at lw_m8 15 rfl) rfl
theorem q1799 : (Jvm.Cond.soleField "StrangeKnivesModel" "stops") ∈ lw_all := lw_g (lw_at lw_m8 16 rfl) rfl
theorem q1800 : (Jvm.Cond.lays "StrangeKnivesModel" "StrangeKnivesModel" "bad" "I") ∈ lw_all := lw_g (lw_at lw_m8 17 rfl) rfl
theorem q1801 : (Jvm.Cond.soleField "StrangeKnivesModel" "bad") ∈ lw_all := lw_g (lw_at lw_m8 18 rfl) rfl
theorem q1802 : (Jvm.Cond.lays "StrangeKnivesModel" "StrangeKnivesModel" "badPlace" "I") ∈ lw_all := lw_g (lw_at lw_m8 19 rfl) rfl
theorem q1803 : (Jvm.Cond.soleField "StrangeKnivesModel" "badPlace") ∈ lw_all := lw_g (lw_at lw_m8 20 rfl) rfl
theorem q1804 : (Jvm.Cond.lays "StrangeKnivesModel" "StrangeKnivesModel" "faultPlace" "I") ∈ lw_all := lw_g (lw_at lw_m8 21 rfl) rfl
theorem q1805 : (Jvm.Cond.soleField "StrangeKnivesModel" "faultPlace") ∈ lw_all := lw_g (lw_at lw_m8 22 rfl) rfl
theorem q1806 : (Jvm.Cond.laysFinal "StrangeKnivesModel" "StrangeKnivesModel" "cutBy" "[I") ∈ lw_all := lw_g (lw_at lw_m8 23 rfl) rfl
theorem q1807 : (Jvm.Cond.soleField "StrangeKnivesModel" "cutBy") ∈ lw_all := lw_g (lw_at lw_m8 24 rfl) rfl
theorem q1808 : (Jvm.Cond.laysFinal "StrangeKnivesModel" "StrangeKnivesModel" "thanked" "[I") ∈ lw_all := lw_g (lw_at lw_m8 25 rfl) rfl
theorem q1809 : (Jvm.Cond.soleField "StrangeKnivesModel" "thanked") ∈ lw_all := lw_g (lw_at lw_m8 26 rfl) rfl
theorem q1810 : (Jvm.Cond.laysFinal "StrangeKnivesModel" "StrangeKnivesModel" "past" "[I") ∈ lw_all := lw_g (lw_at lw_m8 27 rfl) rfl
theorem q1811 : (Jvm.Cond.soleField "StrangeKnivesModel" "past") ∈ lw_all := lw_g (lw_at lw_m8 28 rfl) rfl
theorem q1812 : (Jvm.Cond.lays "StrangeKnivesModel" "StrangeKnivesModel" "today" "I") ∈ lw_all := lw_g (lw_at lw_m8 29 rfl) rfl
theorem q1813 : (Jvm.Cond.soleField "StrangeKnivesModel" "today") ∈ lw_all := lw_g (lw_at lw_m8 30 rfl) rfl
theorem q1814 : (Jvm.Cond.lays "StrangeKnivesModel" "StrangeKnivesModel" "hour" "I") ∈ lw_all := lw_g (lw_at lw_m8 31 rfl) rfl
theorem q1815 : (Jvm.Cond.soleField "StrangeKnivesModel" "hour") ∈ lw_all := lw_g (lw_at lw_m8 32 rfl) rfl
theorem q1816 : (Jvm.Cond.lays "StrangeKnivesModel" "StrangeKnivesModel" "acts" "I") ∈ lw_all := lw_g (lw_at lw_m8 33 rfl) rfl
theorem q1817 : (Jvm.Cond.soleField "StrangeKnivesModel" "acts") ∈ lw_all := lw_g (lw_at lw_m8 34 rfl) rfl
theorem q1818 : (Jvm.Cond.lays "StrangeKnivesModel" "StrangeKnivesModel" "seen" "I") ∈ lw_all := lw_g (lw_at lw_m8 35 rfl) rfl
theorem q1819 : (Jvm.Cond.soleField "StrangeKnivesModel" "seen") ∈ lw_all := lw_g (lw_at lw_m8 36 rfl) rfl
theorem q1820 : (Jvm.Cond.lays "StrangeKnivesModel" "StrangeKnivesModel" "balked" "I") ∈ lw_all := lw_g (lw_at lw_m8 37 rfl) rfl
theorem q1821 : (Jvm.Cond.soleField "StrangeKnivesModel" "balked") ∈ lw_all := lw_g (lw_at lw_m8 38 rfl) rfl
theorem q1822 : (Jvm.Cond.laysFinal "StrangeKnivesModel" "StrangeKnivesModel" "asked" "[I") ∈ lw_all := lw_g (lw_at lw_m8 39 rfl) rfl
theorem q1823 : (Jvm.Cond.soleField "StrangeKnivesModel" "asked") ∈ lw_all := lw_g (lw_at lw_m8 40 rfl) rfl
theorem q1824 : (Jvm.Cond.laysFinal "StrangeKnivesModel" "StrangeKnivesModel" "stack" "[I") ∈ lw_all := lw_g (lw_at lw_m8 41 rfl) rfl
theorem q1825 : (Jvm.Cond.soleField "StrangeKnivesModel" "stack") ∈ lw_all := lw_g (lw_at lw_m8 42 rfl) rfl
theorem q1826 : (Jvm.Cond.laysFinal "StrangeKnivesModel" "StrangeKnivesModel" "slices" "[I") ∈ lw_all := lw_g (lw_at lw_m8 43 rfl) rfl
theorem q1827 : (Jvm.Cond.soleField "StrangeKnivesModel" "slices") ∈ lw_all := lw_g (lw_at lw_m8 44 rfl) rfl
theorem q1828 : (Jvm.Cond.laysFinal "StrangeKnivesModel" "StrangeKnivesModel" "unitOf" "[I") ∈ lw_all := lw_g (lw_at lw_m8 45 rfl) rfl
theorem q1829 : (Jvm.Cond.soleField "StrangeKnivesModel" "unitOf") ∈ lw_all := lw_g (lw_at lw_m8 46 rfl) rfl
theorem q1830 : (Jvm.Cond.laysFinal "StrangeKnivesModel" "StrangeKnivesModel" "got" "[I") ∈ lw_all := lw_g (lw_at lw_m8 47 rfl) rfl
theorem q1831 : (Jvm.Cond.soleField "StrangeKnivesModel" "got") ∈ lw_all := lw_g (lw_at lw_m8 48 rfl) rfl
theorem q1832 : (Jvm.Cond.lays "StrangeKnivesModel" "StrangeKnivesModel" "sliceMany" "I") ∈ lw_all := lw_g (lw_at lw_m8 49 rfl) rfl
theorem q1833 : (Jvm.Cond.soleField "StrangeKnivesModel" "sliceMany") ∈ lw_all := lw_g (lw_at lw_m8 50 rfl) rfl
theorem q1834 : (Jvm.Cond.lays "StrangeKnivesModel" "StrangeKnivesModel" "crumbs" "I") ∈ lw_all := lw_g (lw_at lw_m8 51 rfl) rfl
theorem q1835 : (Jvm.Cond.soleField "StrangeKnivesModel" "crumbs") ∈ lw_all := lw_g (lw_at lw_m8 52 rfl) rfl
theorem q1836 : (Jvm.Cond.laysFinal "StrangeKnivesModel" "StrangeKnivesModel" "rowTry" "[I") ∈ lw_all := lw_g (lw_at lw_m8 53 rfl) rfl
theorem q1837 : (Jvm.Cond.soleField "StrangeKnivesModel" "rowTry") ∈ lw_all := lw_g (lw_at lw_m8 54 rfl) rfl
theorem q1838 : (Jvm.Cond.laysFinal "StrangeKnivesModel" "StrangeKnivesModel" "rowKept" "[I") ∈ lw_all := lw_g (lw_at lw_m8 55 rfl) rfl
theorem q1839 : (Jvm.Cond.soleField "StrangeKnivesModel" "rowKept") ∈ lw_all := lw_g (lw_at lw_m8 56 rfl) rfl
theorem q1840 : (Jvm.Cond.lays "StrangeKnivesModel" "StrangeKnivesModel" "leastHouses" "I") ∈ lw_all := lw_g (lw_at lw_m8 57 rfl) rfl
theorem q1841 : (Jvm.Cond.soleField "StrangeKnivesModel" "leastHouses") ∈ lw_all := lw_g (lw_at lw_m8 58 rfl) rfl
theorem q1842 : (Jvm.Cond.lays "StrangeKnivesModel" "StrangeKnivesModel" "isKept" "Z") ∈ lw_all := lw_g (lw_at lw_m8 59 rfl) rfl
theorem q1843 : (Jvm.Cond.soleField "StrangeKnivesModel" "isKept") ∈ lw_all := lw_g (lw_at lw_m8 60 rfl) rfl
theorem q1844 : (Jvm.Cond.lays "StrangeKnivesModel" "StrangeKnivesModel" "isFound" "Z") ∈ lw_all := lw_g (lw_at lw_m8 61 rfl) rfl
theorem q1845 : (Jvm.Cond.soleField "StrangeKnivesModel" "isFound") ∈ lw_all := lw_g (lw_at lw_m8 62 rfl) rfl
theorem q1846 : (Jvm.Cond.laysFinal "StrangeKnivesModel" "StrangeKnivesModel" "rowWas" "[I") ∈ lw_all := lw_g (lw_at lw_m8 63 rfl) rfl
theorem q1847 : (Jvm.Cond.soleField "StrangeKnivesModel" "rowWas") ∈ lw_all := lw_g (lw_at lw_m8 64 rfl) rfl
theorem q1848 : (Jvm.Cond.laysFinal "StrangeKnivesModel" "StrangeKnivesModel" "rowThen" "[I") ∈ lw_all := lw_g (lw_at lw_m8 65 rfl) rfl
theorem q1849 : (Jvm.Cond.soleField "StrangeKnivesModel" "rowThen") ∈ lw_all := lw_g (lw_at lw_m8 66 rfl) rfl
theorem q1850 : (Jvm.Cond.laysFinal "StrangeKnivesModel" "StrangeKnivesModel" "helps" "[I") ∈ lw_all := lw_g (lw_at lw_m8 67 rfl) rfl
theorem q1851 : (Jvm.Cond.soleField "StrangeKnivesModel" "helps") ∈ lw_all := lw_g (lw_at lw_m8 68 rfl) rfl
theorem q1852 : (Jvm.Cond.lays "StrangeKnivesModel" "StrangeKnivesModel" "helpTried" "I") ∈ lw_all := lw_g (lw_at lw_m8 69 rfl) rfl
theorem q1853 : (Jvm.Cond.soleField "StrangeKnivesModel" "helpTried") ∈ lw_all := lw_g (lw_at lw_m8 70 rfl) rfl
theorem q1854 : (Jvm.Cond.laysFinal "StrangeKnivesModel" "StrangeKnivesModel" "seenLoaf" "[I") ∈ lw_all := lw_g (lw_at lw_m8 71 rfl) rfl
theorem q1855 : (Jvm.Cond.soleField "StrangeKnivesModel" "seenLoaf") ∈ lw_all := lw_g (lw_at lw_m8 72 rfl) rfl
theorem q1856 : (Jvm.Cond.laysFinal "StrangeKnivesModel" "StrangeKnivesModel" "seenAt" "[I") ∈ lw_all := lw_g (lw_at lw_m8 73 rfl) rfl
theorem q1857 : (Jvm.Cond.soleField "StrangeKnivesModel" "seenAt") ∈ lw_all := lw_g (lw_at lw_m8 74 rfl) rfl
theorem q1858 : (Jvm.Cond.laysFinal "StrangeKnivesModel" "StrangeKnivesModel" "seenMuch" "[I") ∈ lw_all := lw_g (lw_at lw_m8 75 rfl) rfl
theorem q1859 : (Jvm.Cond.soleField "StrangeKnivesModel" "seenMuch") ∈ lw_all := lw_g (lw_at lw_m8 76 rfl) rfl
theorem q1860 : (Jvm.Cond.laysFinal "StrangeKnivesModel" "StrangeKnivesModel" "balkWho" "[I") ∈ lw_all := lw_g (lw_at lw_m8 77 rfl) rfl
theorem q1861 : (Jvm.Cond.soleField "StrangeKnivesModel" "balkWho") ∈ lw_all := lw_g (lw_at lw_m8 78 rfl) rfl
theorem q1862 : (Jvm.Cond.laysFinal "StrangeKnivesModel" "StrangeKnivesModel" "balkLoaf" "[I") ∈ lw_all := lw_g (lw_at lw_m8 79 rfl) rfl
theorem q1863 : (Jvm.Cond.soleField "StrangeKnivesModel" "balkLoaf") ∈ lw_all := lw_g (lw_at lw_m8 80 rfl) rfl
theorem q1864 : (Jvm.Cond.lays "StrangeKnivesModel" "StrangeKnivesModel" "seedNow" "I") ∈ lw_all := lw_g (lw_at lw_m8 81 rfl) rfl
theorem q1865 : (Jvm.Cond.soleField "StrangeKnivesModel" "seedNow") ∈ lw_all := lw_g (lw_at lw_m8 82 rfl) rfl
theorem q1866 : (Jvm.Cond.lays "StrangeKnivesModel" "StrangeKnivesModel" "hasImage" "Z") ∈ lw_all := lw_g (lw_at lw_m8 83 rfl) rfl
theorem q1867 : (Jvm.Cond.soleField "StrangeKnivesModel" "hasImage") ∈ lw_all := lw_g (lw_at lw_m8 84 rfl) rfl
theorem q1868 : (Jvm.Cond.lays "StrangeKnivesModel" "StrangeKnivesModel" "actsThen" "I") ∈ lw_all := lw_g (lw_at lw_m8 85 rfl) rfl
theorem q1869 : (Jvm.Cond.soleField "StrangeKnivesModel" "actsThen") ∈ lw_all := lw_g (lw_at lw_m8 86 rfl) rfl
theorem q1870 : (Jvm.Cond.lays "StrangeKnivesModel" "StrangeKnivesModel" "seenThen" "I") ∈ lw_all := lw_g (lw_at lw_m8 87 rfl) rfl
theorem q1871 : (Jvm.Cond.soleField "StrangeKnivesModel" "seenThen") ∈ lw_all := lw_g (lw_at lw_m8 88 rfl) rfl
theorem q1872 : (Jvm.Cond.lays "StrangeKnivesModel" "StrangeKnivesModel" "balkedThen" "I") ∈ lw_all := lw_g (lw_at lw_m8 89 rfl) rfl
theorem q1873 : (Jvm.Cond.soleField "StrangeKnivesModel" "balkedThen") ∈ lw_all := lw_g (lw_at lw_m8 90 rfl) rfl
theorem q1874 : (Jvm.Cond.laysFinal "StrangeKnivesModel" "StrangeKnivesModel" "imageRow" "[I") ∈ lw_all := lw_g (lw_at lw_m8 91 rfl) rfl
theorem q1875 : (Jvm.Cond.soleField "StrangeKnivesModel" "imageRow") ∈ lw_all := lw_g (lw_at lw_m8 92 rfl) rfl
theorem q1876 : (Jvm.Cond.laysFinal "StrangeKnivesModel" "StrangeKnivesModel" "pastThen" "[I") ∈ lw_all := lw_g (lw_at lw_m8 93 rfl) rfl
theorem q1877 : (Jvm.Cond.soleField "StrangeKnivesModel" "pastThen") ∈ lw_all := lw_g (lw_at lw_m8 94 rfl) rfl
theorem q1878 : (Jvm.Cond.laysFinal "StrangeKnivesModel" "StrangeKnivesModel" "seenLoafThen" "[I") ∈ lw_all := lw_g (lw_at lw_m8 95 rfl) rfl
theorem q1879 : (Jvm.Cond.soleField "StrangeKnivesModel" "seenLoafThen") ∈ lw_all := lw_g (lw_at lw_m8 96 rfl) rfl
theorem q1880 : (Jvm.Cond.laysFinal "StrangeKnivesModel" "StrangeKnivesModel" "seenAtThen" "[I") ∈ lw_all := lw_g (lw_at lw_m8 97 rfl) rfl
theorem q1881 : (Jvm.Cond.soleField "StrangeKnivesModel" "seenAtThen") ∈ lw_all := lw_g (lw_at lw_m8 98 rfl) rfl
theorem q1882 : (Jvm.Cond.laysFinal "StrangeKnivesModel" "StrangeKnivesModel" "seenMuchThen" "[I") ∈ lw_all := lw_g (lw_at lw_m8 99 rfl) rfl
theorem q1883 : (Jvm.Cond.soleField "StrangeKnivesModel" "seenMuchThen") ∈ lw_all := lw_g (lw_at lw_m8 100 rfl) rfl
theorem q1884 : (Jvm.Cond.laysFinal "StrangeKnivesModel" "StrangeKnivesModel" "balkWhoThen" "[I") ∈ lw_all := lw_g (lw_at lw_m8 101 rfl) rfl
theorem q1885 : (Jvm.Cond.soleField "StrangeKnivesModel" "balkWhoThen") ∈ lw_all := lw_g (lw_at lw_m8 102 rfl) rfl
theorem q1886 : (Jvm.Cond.laysFinal "StrangeKnivesModel" "StrangeKnivesModel" "balkLoafThen" "[I") ∈ lw_all := lw_g (lw_at lw_m8 103 rfl) rfl
theorem q1887 : (Jvm.Cond.soleField "StrangeKnivesModel" "balkLoafThen") ∈ lw_all := lw_g (lw_at lw_m8 104 rfl) rfl
theorem q1888 : (Jvm.Cond.laysFinal "StrangeKnivesModel" "StrangeKnivesModel" "statusThen" "[I") ∈ lw_all := lw_g (lw_at lw_m8 105 rfl) rfl
theorem q1889 : (Jvm.Cond.soleField "StrangeKnivesModel" "statusThen") ∈ lw_all := lw_g (lw_at lw_m8 106 rfl) rfl
theorem q1890 : (Jvm.Cond.superclass "StrangeKnivesModel" "java/lang/Object") ∈ lw_all := lw_g (lw_at lw_m8 107 rfl) rfl
theorem q1892 : (Jvm.Cond.instanceMethod ({ cls := "StrangeKnivesModel", name := "thrown", desc := "()I" } : Jvm.MethodName)) ∈ lw_all := lw_g (lw_at lw_m8 109 rfl) rfl
theorem q1893 : (Jvm.Cond.selects "StrangeKnivesModel" ({ cls := "StrangeKnivesModel", name := "thrown", desc := "()I" } : Jvm.MethodName) ({ cls := "StrangeKnivesModel", name := "thrown", desc := "()I" } : Jvm.MethodName)) ∈ lw_all := lw_g (lw_at lw_m8 110 rfl) rfl
theorem q1894 : (Jvm.Cond.code ({ cls := "StrangeKnivesModel", name := "thrown", desc := "()I" } : Jvm.MethodName) prog_21_method_2_code (1 : Nat) (Option.some Jvm.ClassFile.FieldType.int)) ∈ lw_all := lw_g (lw_at lw_m8 111 rfl) rfl
theorem q1896 : (Jvm.Cond.instanceMethod ({ cls := "StrangeKnivesModel", name := "feed", desc := "(IIIII)I" } : Jvm.MethodName)) ∈ lw_all := lw_g (lw_at lw_m8 113 rfl) rfl
theorem q1897 : (Jvm.Cond.selects "StrangeKnivesModel" ({ cls := "StrangeKnivesModel", name := "feed", desc := "(IIIII)I" } : Jvm.MethodName) ({ cls := "StrangeKnivesModel", name := "feed", desc := "(IIIII)I" } : Jvm.MethodName)) ∈ lw_all := lw_g (lw_at lw_m8 114 rfl) rfl
theorem q1898 : (Jvm.Cond.code ({ cls := "StrangeKnivesModel", name := "feed", desc := "(IIIII)I" } : Jvm.MethodName) prog_21_method_10_code (8 : Nat) (Option.some Jvm.ClassFile.FieldType.int)) ∈ lw_all := lw_g (lw_at lw_m8 115 rfl) rfl
theorem q1900 : (Jvm.Cond.instanceMethod ({ cls := "StrangeKnivesModel", name := "town", desc := "(I)I" } : Jvm.MethodName)) ∈ lw_all := lw_g (lw_at lw_m8 117 rfl) rfl
theorem q1901 : (Jvm.Cond.selects "StrangeKnivesModel" ({ cls := "StrangeKnivesModel", name := "town", desc := "(I)I" } : Jvm.MethodName) ({ cls := "StrangeKnivesModel", name := "town", desc := "(I)I" } : Jvm.MethodName)) ∈ lw_all := lw_g (lw_at lw_m8 118 rfl) rfl
theorem q1902 : (Jvm.Cond.code ({ cls := "StrangeKnivesModel", name := "town", desc := "(I)I" } : Jvm.MethodName) prog_21_method_35_code (3 : Nat) (Option.some Jvm.ClassFile.FieldType.int)) ∈ lw_all := lw_g (lw_at lw_m8 119 rfl) rfl
theorem q1903 : (Jvm.Cond.methodLink "StrangeKnivesModel" (307 : Nat) ({ cls := "StrangeKnivesModel", name := "fail", desc := "(I)I" } : Jvm.MethodName)) ∈ lw_all := lw_g (lw_at lw_m8 120 rfl) rfl
theorem q1904 : (Jvm.Cond.privateMethod ({ cls := "StrangeKnivesModel", name := "fail", desc := "(I)I" } : Jvm.MethodName)) ∈ lw_tbl := lw_at lw_m8 121 rfl
theorem q1905 : (Jvm.Cond.instanceMethod ({ cls := "StrangeKnivesModel", name := "fail", desc := "(I)I" } : Jvm.MethodName)) ∈ lw_all := lw_g (lw_at lw_m8 122 rfl) rfl
theorem q1906 : (Jvm.Cond.code ({ cls := "StrangeKnivesModel", name := "fail", desc := "(I)I" } : Jvm.MethodName) prog_21_method_3_code (2 : Nat) (Option.some Jvm.ClassFile.FieldType.int)) ∈ lw_all := lw_g (lw_at lw_m8 123 rfl) rfl
theorem q1907 : (Jvm.Cond.constant "StrangeKnivesModel" (310 : Nat) (-100000 : Int32)) ∈ lw_all := lw_g (lw_at lw_m8 124 rfl) rfl
theorem q1908 : (Jvm.Cond.methodLink "StrangeKnivesModel" (232 : Nat) ({ cls := "StrangeKnivesModel", name := "stepOn", desc := "()V" } : Jvm.MethodName)) ∈ lw_all := lw_g (lw_at lw_m8 125 rfl) rfl
theorem q1909 : (Jvm.Cond.privateMethod ({ cls := "StrangeKnivesModel", name := "stepOn", desc := "()V" } : Jvm.MethodName)) ∈ lw_tbl := lw_at lw_m8 126 rfl
theorem q1910 : (Jvm.Cond.instanceMethod ({ cls := "StrangeKnivesModel", name := "stepOn", desc := "()V" } : Jvm.MethodName)) ∈ lw_all := lw_g (lw_at lw_m8 127 rfl) rfl
theorem q1911 : (Jvm.Cond.code ({ cls := "StrangeKnivesModel", name := "stepOn", desc := "()V" } : Jvm.MethodName) prog_21_method_15_code (2 : Nat) (Option.none : Option Jvm.ClassFile.FieldType)) ∈ lw_all := lw_g (lw_at lw_m8 128 rfl) rfl
theorem q1912 : (Jvm.Cond.methodLink "StrangeKnivesModel" (174 : Nat) ({ cls := "StrangeKnivesModel", name := "byteAt", desc := "(I)I" } : Jvm.MethodName)) ∈ lw_all := lw_g (lw_at lw_m8 129 rfl) rfl
theorem q1913 : (Jvm.Cond.privateMethod ({ cls := "StrangeKnivesModel", name := "byteAt", desc := "(I)I" } : Jvm.MethodName)) ∈ lw_tbl := lw_at lw_m8 130 rfl
theorem q1914 : (Jvm.Cond.instanceMethod ({ cls := "StrangeKnivesModel", name := "byteAt", desc := "(I)I" } : Jvm.MethodName)) ∈ lw_all := lw_g (lw_at lw_m8 131 rfl) rfl
theorem q1915 : (Jvm.Cond.code ({ cls := "StrangeKnivesModel", name := "byteAt", desc := "(I)I" } : Jvm.MethodName) prog_21_method_11_code (2 : Nat) (Option.some Jvm.ClassFile.FieldType.int)) ∈ lw_all := lw_g (lw_at lw_m8 132 rfl) rfl
theorem q1916 : (Jvm.Cond.methodLink "StrangeKnivesModel" (184 : Nat) ({ cls := "StrangeKnivesModel", name := "isLetter", desc := "(I)Z" } : Jvm.MethodName)) ∈ lw_all := lw_g (lw_at lw_m8 133 rfl) rfl
theorem q1917 : (Jvm.Cond.static ({ cls := "StrangeKnivesModel", name := "isLetter", desc := "(I)Z" } : Jvm.MethodName)) ∈ lw_all := lw_g (lw_at lw_m8 134 rfl) rfl
theorem q1918 : (Jvm.Cond.code ({ cls := "StrangeKnivesModel", name := "isLetter", desc := "(I)Z" } : Jvm.MethodName) prog_21_method_12_code (1 : Nat) (Option.some Jvm.ClassFile.FieldType.boolean)) ∈ lw_all := lw_g (lw_at lw_m8 135 rfl) rfl
theorem q1919 : (Jvm.Cond.methodLink "StrangeKnivesModel" (188 : Nat) ({ cls := "StrangeKnivesModel", name := "isDigit", desc := "(I)Z" } : Jvm.MethodName)) ∈ lw_all := lw_g (lw_at lw_m8 136 rfl) rfl
theorem q1920 : (Jvm.Cond.static ({ cls := "StrangeKnivesModel", name := "isDigit", desc := "(I)Z" } : Jvm.MethodName)) ∈ lw_all := lw_g (lw_at lw_m8 137 rfl) rfl
theorem q1921 : (Jvm.Cond.code ({ cls := "StrangeKnivesModel", name := "isDigit", desc := "(I)Z" } : Jvm.MethodName) prog_21_method_13_code (1 : Nat) (Option.some Jvm.ClassFile.FieldType.boolean)) ∈ lw_all := lw_g (lw_at lw_m8 138 rfl) rfl
theorem q1922 : (Jvm.Cond.constant "StrangeKnivesModel" (194 : Nat) (100000 : Int32)) ∈ lw_all := lw_g (lw_at lw_m8 139 rfl) rfl
theorem q1923 : (Jvm.Cond.methodLink "StrangeKnivesModel" (195 : Nat) ({ cls := "java/lang/Math", name := "min", desc := "(II)I" } : Jvm.MethodName)) ∈ lw_all := lw_g (lw_at lw_m8 140 rfl) rfl
theorem q1924 : (Jvm.Cond.methodLink "StrangeKnivesModel" (201 : Nat) ({ cls := "StrangeKnivesModel", name := "isMark", desc := "(I)Z" } : Jvm.MethodName)) ∈ lw_all := lw_g (lw_at lw_m8 141 rfl) rfl
theorem q1925 : (Jvm.Cond.static ({ cls := "StrangeKnivesModel", name := "isMark", desc := "(I)Z" } : Jvm.MethodName)) ∈ lw_all := lw_g (lw_at lw_m8 142 rfl) rfl
theorem q1926 : (Jvm.Cond.code ({ cls := "StrangeKnivesModel", name := "isMark", desc := "(I)Z" } : Jvm.MethodName) prog_21_method_14_code (1 : Nat) (Option.some Jvm.ClassFile.FieldType.boolean)) ∈ lw_all := lw_g (lw_at lw_m8 143 rfl) rfl
theorem q1927 : (Jvm.Cond.methodLink "StrangeKnivesModel" (311 : Nat) ({ cls := "StrangeKnivesModel", name := "readLine", desc := "(I)I" } : Jvm.MethodName)) ∈ lw_all := lw_g (lw_at lw_m8 144 rfl) rfl
theorem q1928 : (Jvm.Cond.privateMethod ({ cls := "StrangeKnivesModel", name := "readLine", desc := "(I)I" } : Jvm.MethodName)) ∈ lw_tbl := lw_at lw_m8 145 rfl
theorem q1929 : (Jvm.Cond.instanceMethod ({ cls := "StrangeKnivesModel", name := "readLine", desc := "(I)I" } : Jvm.MethodName)) ∈ lw_all := lw_g (lw_at lw_m8 146 rfl) rfl
theorem q1930 : (Jvm.Cond.code ({ cls := "StrangeKnivesModel", name := "readLine", desc := "(I)I" } : Jvm.MethodName) prog_21_method_34_code (4 : Nat) (Option.some Jvm.ClassFile.FieldType.int)) ∈ lw_all := lw_g (lw_at lw_m8 147 rfl) rfl
theorem q1931 : (Jvm.Cond.stringRef "StrangeKnivesModel" (288 : Nat) "forget") ∈ lw_tbl := lw_at lw_m8 148 rfl
theorem q1932 : (Jvm.Cond.methodLink "StrangeKnivesModel" (221 : Nat) ({ cls := "StrangeKnivesModel", name := "is", desc := "(Ljava/lang/String;)Z" } : Jvm.MethodName)) ∈ lw_all := lw_g (lw_at lw_m8 149 rfl) rfl
theorem q1933 : (Jvm.Cond.privateMethod ({ cls := "StrangeKnivesModel", name := "is", desc := "(Ljava/lang/String;)Z" } : Jvm.MethodName)) ∈ lw_tbl := lw_at lw_m8 150 rfl
theorem q1934 : (Jvm.Cond.instanceMethod ({ cls := "StrangeKnivesModel", name := "is", desc := "(Ljava/lang/String;)Z" } : Jvm.MethodName)) ∈ lw_all := lw_g (lw_at lw_m8 151 rfl) rfl
theorem q1935 : (Jvm.Cond.code ({ cls := "StrangeKnivesModel", name := "is", desc := "(Ljava/lang/String;)Z" } : Jvm.MethodName) prog_21_method_17_code (4 : Nat) (Option.some Jvm.ClassFile.FieldType.boolean)) ∈ lw_all := lw_g (lw_at lw_m8 152 rfl) rfl
theorem q1936 : (Jvm.Cond.methodLink "StrangeKnivesModel" (213 : Nat) ({ cls := "java/lang/String", name := "length", desc := "()I" } : Jvm.MethodName)) ∈ lw_all := lw_g (lw_at lw_m8 153 rfl) rfl
theorem q1937 : (Jvm.Cond.methodLink "StrangeKnivesModel" (217 : Nat) ({ cls := "java/lang/String", name := "charAt", desc := "(I)C" } : Jvm.MethodName)) ∈ lw_all := lw_g (lw_at lw_m8 154 rfl) rfl
theorem q1938 : (Jvm.Cond.stringRef "StrangeKnivesModel" (290 : Nat) "noon") ∈ lw_tbl := lw_at lw_m8 155 rfl
theorem q1939 : (Jvm.Cond.stringRef "StrangeKnivesModel" (292 : Nat) "cuts") ∈ lw_tbl := lw_at lw_m8 156 rfl
theorem q1940 : (Jvm.Cond.methodLink "StrangeKnivesModel" (244 : Nat) ({ cls := "StrangeKnivesModel", name := "which", desc := "([Ljava/lang/String;)I" } : Jvm.MethodName)) ∈ lw_all := lw_g (lw_at lw_m8 157 rfl) rfl
theorem q1941 : (Jvm.Cond.privateMethod ({ cls := "StrangeKnivesModel", name := "which", desc := "([Ljava/lang/String;)I" } : Jvm.MethodName)) ∈ lw_tbl := lw_at lw_m8 158 rfl
theorem q1942 : (Jvm.Cond.instanceMethod ({ cls := "StrangeKnivesModel", name := "which", desc := "([Ljava/lang/String;)I" } : Jvm.MethodName)) ∈ lw_all := lw_g (lw_at lw_m8 159 rfl) rfl
theorem q1943 : (Jvm.Cond.code ({ cls := "StrangeKnivesModel", name := "which", desc := "([Ljava/lang/String;)I" } : Jvm.MethodName) prog_21_method_18_code (3 : Nat) (Option.some Jvm.ClassFile.FieldType.int)) ∈ lw_all := lw_g (lw_at lw_m8 160 rfl) rfl
theorem q1944 : (Jvm.Cond.methodLink "StrangeKnivesModel" (228 : Nat) ({ cls := "StrangeKnivesModel", name := "wrong", desc := "(I)V" } : Jvm.MethodName)) ∈ lw_all := lw_g (lw_at lw_m8 161 rfl) rfl
theorem q1945 : (Jvm.Cond.privateMethod ({ cls := "StrangeKnivesModel", name := "wrong", desc := "(I)V" } : Jvm.MethodName)) ∈ lw_tbl := lw_at lw_m8 162 rfl
theorem q1946 : (Jvm.Cond.instanceMethod ({ cls := "StrangeKnivesModel", name := "wrong", desc := "(I)V" } : Jvm.MethodName)) ∈ lw_all := lw_g (lw_at lw_m8 163 rfl) rfl
theorem q1947 : (Jvm.Cond.code ({ cls := "StrangeKnivesModel", name := "wrong", desc := "(I)V" } : Jvm.MethodName) prog_21_method_16_code (2 : Nat) (Option.none : Option Jvm.ClassFile.FieldType)) ∈ lw_all := lw_g (lw_at lw_m8 164 rfl) rfl
theorem q1948 : (Jvm.Cond.methodLink "StrangeKnivesModel" (238 : Nat) ({ cls := "StrangeKnivesModel", name := "readNumber", desc := "(II)I" } : Jvm.MethodName)) ∈ lw_all := lw_g (lw_at lw_m8 165 rfl) rfl
theorem q1949 : (Jvm.Cond.privateMethod ({ cls := "StrangeKnivesModel", name := "readNumber", desc := "(II)I" } : Jvm.MethodName)) ∈ lw_tbl := lw_at lw_m8 166 rfl
theorem q1950 : (Jvm.Cond.instanceMethod ({ cls := "StrangeKnivesModel", name := "readNumber", desc := "(II)I" } : Jvm.MethodName)) ∈ lw_all := lw_g (lw_at lw_m8 167 rfl) rfl
theorem q1951 : (Jvm.Cond.code ({ cls := "StrangeKnivesModel", name := "readNumber", desc := "(II)I" } : Jvm.MethodName) prog_21_method_22_code (4 : Nat) (Option.some Jvm.ClassFile.FieldType.int)) ∈ lw_all := lw_g (lw_at lw_m8 168 rfl) rfl
theorem q1952 : (Jvm.Cond.methodLink "StrangeKnivesModel" (235 : Nat) ({ cls := "StrangeKnivesModel", name := "numberNow", desc := "(II)I" } : Jvm.MethodName)) ∈ lw_all := lw_g (lw_at lw_m8 169 rfl) rfl
theorem q1953 : (Jvm.Cond.privateMethod ({ cls := "StrangeKnivesModel", name := "numberNow", desc := "(II)I" } : Jvm.MethodName)) ∈ lw_tbl := lw_at lw_m8 170 rfl
theorem q1954 : (Jvm.Cond.instanceMethod ({ cls := "StrangeKnivesModel", name := "numberNow", desc := "(II)I" } : Jvm.MethodName)) ∈ lw_all := lw_g (lw_at lw_m8 171 rfl) rfl
theorem q1955 : (Jvm.Cond.code ({ cls := "StrangeKnivesModel", name := "numberNow", desc := "(II)I" } : Jvm.MethodName) prog_21_method_21_code (3 : Nat) (Option.some Jvm.ClassFile.FieldType.int)) ∈ lw_all := lw_g (lw_at lw_m8 172 rfl) rfl
theorem q1956 : (Jvm.Cond.methodLink "StrangeKnivesModel" (251 : Nat) ({ cls := "StrangeKnivesModel", name := "readExpression", desc := "(I)V" } : Jvm.MethodName)) ∈ lw_all := lw_g (lw_at lw_m8 173 rfl) rfl
theorem q1957 : (Jvm.Cond.privateMethod ({ cls := "StrangeKnivesModel", name := "readExpression", desc := "(I)V" } : Jvm.MethodName)) ∈ lw_tbl := lw_at lw_m8 174 rfl
theorem q1958 : (Jvm.Cond.instanceMethod ({ cls := "StrangeKnivesModel", name := "readExpression", desc := "(I)V" } : Jvm.MethodName)) ∈ lw_all := lw_g (lw_at lw_m8 175 rfl) rfl
theorem q1959 : (Jvm.Cond.code ({ cls := "StrangeKnivesModel", name := "readExpression", desc := "(I)V" } : Jvm.MethodName) prog_21_method_30_code (3 : Nat) (Option.none : Option Jvm.ClassFile.FieldType)) ∈ lw_all := lw_g (lw_at lw_m8 176 rfl) rfl
theorem q1960 : (Jvm.Cond.methodLink "StrangeKnivesModel" (225 : Nat) ({ cls := "StrangeKnivesModel", name := "isMarked", desc := "(I)Z" } : Jvm.MethodName)) ∈ lw_all := lw_g (lw_at lw_m8 177 rfl) rfl
theorem q1961 : (Jvm.Cond.privateMethod ({ cls := "StrangeKnivesModel", name := "isMarked", desc := "(I)Z" } : Jvm.MethodName)) ∈ lw_tbl := lw_at lw_m8 178 rfl
theorem q1962 : (Jvm.Cond.instanceMethod ({ cls := "StrangeKnivesModel", name := "isMarked", desc := "(I)Z" } : Jvm.MethodName)) ∈ lw_all := lw_g (lw_at lw_m8 179 rfl) rfl
theorem q1963 : (Jvm.Cond.code ({ cls := "StrangeKnivesModel", name := "isMarked", desc := "(I)Z" } : Jvm.MethodName) prog_21_method_19_code (2 : Nat) (Option.some Jvm.ClassFile.FieldType.boolean)) ∈ lw_all := lw_g (lw_at lw_m8 180 rfl) rfl
theorem q1964 : (Jvm.Cond.methodLink "StrangeKnivesModel" (270 : Nat) ({ cls := "StrangeKnivesModel", name := "readAnd", desc := "(I)V" } : Jvm.MethodName)) ∈ lw_all := lw_g (lw_at lw_m8 181 rfl) rfl
theorem q1965 : (Jvm.Cond.privateMethod ({ cls := "StrangeKnivesModel", name := "readAnd", desc := "(I)V" } : Jvm.MethodName)) ∈ lw_tbl := lw_at lw_m8 182 rfl
theorem q1966 : (Jvm.Cond.instanceMethod ({ cls := "StrangeKnivesModel", name := "readAnd", desc := "(I)V" } : Jvm.MethodName)) ∈ lw_all := lw_g (lw_at lw_m8 183 rfl) rfl
theorem q1967 : (Jvm.Cond.code ({ cls := "StrangeKnivesModel", name := "readAnd", desc := "(I)V" } : Jvm.MethodName) prog_21_method_29_code (2 : Nat) (Option.none : Option Jvm.ClassFile.FieldType)) ∈ lw_all := lw_g (lw_at lw_m8 184 rfl) rfl
theorem q1968 : (Jvm.Cond.methodLink "StrangeKnivesModel" (265 : Nat) ({ cls := "StrangeKnivesModel", name := "readNot", desc := "(I)V" } : Jvm.MethodName)) ∈ lw_all := lw_g (lw_at lw_m8 185 rfl) rfl
theorem q1969 : (Jvm.Cond.privateMethod ({ cls := "StrangeKnivesModel", name := "readNot", desc := "(I)V" } : Jvm.MethodName)) ∈ lw_tbl := lw_at lw_m8 186 rfl
theorem q1970 : (Jvm.Cond.instanceMethod ({ cls := "StrangeKnivesModel", name := "readNot", desc := "(I)V" } : Jvm.MethodName)) ∈ lw_all := lw_g (lw_at lw_m8 187 rfl) rfl
theorem q1971 : (Jvm.Cond.code ({ cls := "StrangeKnivesModel", name := "readNot", desc := "(I)V" } : Jvm.MethodName) prog_21_method_28_code (4 : Nat) (Option.none : Option Jvm.ClassFile.FieldType)) ∈ lw_all := lw_g (lw_at lw_m8 188 rfl) rfl
theorem q1972 : (Jvm.Cond.stringRef "StrangeKnivesModel" (260 : Nat) "not") ∈ lw_tbl := lw_at lw_m8 189 rfl
theorem q1973 : (Jvm.Cond.methodLink "StrangeKnivesModel" (262 : Nat) ({ cls := "StrangeKnivesModel", name := "readSum", desc := "(I)V" } : Jvm.MethodName)) ∈ lw_all := lw_g (lw_at lw_m8 190 rfl) rfl
theorem q1974 : (Jvm.Cond.privateMethod ({ cls := "StrangeKnivesModel", name := "readSum", desc := "(I)V" } : Jvm.MethodName)) ∈ lw_tbl := lw_at lw_m8 191 rfl
theorem q1975 : (Jvm.Cond.instanceMethod ({ cls := "StrangeKnivesModel", name := "readSum", desc := "(I)V" } : Jvm.MethodName)) ∈ lw_all := lw_g (lw_at lw_m8 192 rfl) rfl
theorem q1976 : (Jvm.Cond.code ({ cls := "StrangeKnivesModel", name := "readSum", desc := "(I)V" } : Jvm.MethodName) prog_21_method_27_code (3 : Nat) (Option.none : Option Jvm.ClassFile.FieldType)) ∈ lw_all := lw_g (lw_at lw_m8 193 rfl) rfl
theorem q1977 : (Jvm.Cond.methodLink "StrangeKnivesModel" (257 : Nat) ({ cls := "StrangeKnivesModel", name := "readProduct", desc := "(I)V" } : Jvm.MethodName)) ∈ lw_all := lw_g (lw_at lw_m8 194 rfl) rfl
theorem q1978 : (Jvm.Cond.privateMethod ({ cls := "StrangeKnivesModel", name := "readProduct", desc := "(I)V" } : Jvm.MethodName)) ∈ lw_tbl := lw_at lw_m8 195 rfl
theorem q1979 : (Jvm.Cond.instanceMethod ({ cls := "StrangeKnivesModel", name := "readProduct", desc := "(I)V" } : Jvm.MethodName)) ∈ lw_all := lw_g (lw_at lw_m8 196 rfl) rfl
theorem q1980 : (Jvm.Cond.code ({ cls := "StrangeKnivesModel", name := "readProduct", desc := "(I)V" } : Jvm.MethodName) prog_21_method_26_code (3 : Nat) (Option.none : Option Jvm.ClassFile.FieldType)) ∈ lw_all := lw_g (lw_at lw_m8 197 rfl) rfl
theorem q1981 : (Jvm.Cond.methodLink "StrangeKnivesModel" (254 : Nat) ({ cls := "StrangeKnivesModel", name := "readPart", desc := "(I)V" } : Jvm.MethodName)) ∈ lw_all := lw_g (lw_at lw_m8 198 rfl) rfl
theorem q1982 : (Jvm.Cond.privateMethod ({ cls := "StrangeKnivesModel", name := "readPart", desc := "(I)V" } : Jvm.MethodName)) ∈ lw_tbl := lw_at lw_m8 199 rfl
theorem q1983 : (Jvm.Cond.instanceMethod ({ cls := "StrangeKnivesModel", name := "readPart", desc := "(I)V" } : Jvm.MethodName)) ∈ lw_all := lw_g (lw_at lw_m8 200 rfl) rfl
theorem q1984 : (Jvm.Cond.code ({ cls := "StrangeKnivesModel", name := "readPart", desc := "(I)V" } : Jvm.MethodName) prog_21_method_25_code (3 : Nat) (Option.none : Option Jvm.ClassFile.FieldType)) ∈ lw_all := lw_g (lw_at lw_m8 201 rfl) rfl
theorem q1985 : (Jvm.Cond.methodLink "StrangeKnivesModel" (241 : Nat) ({ cls := "StrangeKnivesModel", name := "lay", desc := "(I)V" } : Jvm.MethodName)) ∈ lw_all := lw_g (lw_at lw_m8 202 rfl) rfl
theorem q1986 : (Jvm.Cond.privateMethod ({ cls := "StrangeKnivesModel", name := "lay", desc := "(I)V" } : Jvm.MethodName)) ∈ lw_tbl := lw_at lw_m8 203 rfl
theorem q1987 : (Jvm.Cond.instanceMethod ({ cls := "StrangeKnivesModel", name := "lay", desc := "(I)V" } : Jvm.MethodName)) ∈ lw_all := lw_g (lw_at lw_m8 204 rfl) rfl
theorem q1988 : (Jvm.Cond.code ({ cls := "StrangeKnivesModel", name := "lay", desc := "(I)V" } : Jvm.MethodName) prog_21_method_24_code (2 : Nat) (Option.none : Option Jvm.ClassFile.FieldType)) ∈ lw_all := lw_g (lw_at lw_m8 205 rfl) rfl
theorem q1989 : (Jvm.Cond.methodLink "StrangeKnivesModel" (248 : Nat) ({ cls := "StrangeKnivesModel", name := "mark", desc := "(I)V" } : Jvm.MethodName)) ∈ lw_all := lw_g (lw_at lw_m8 206 rfl) rfl
theorem q1990 : (Jvm.Cond.privateMethod ({ cls := "StrangeKnivesModel", name := "mark", desc := "(I)V" } : Jvm.MethodName)) ∈ lw_tbl := lw_at lw_m8 207 rfl
theorem q1991 : (Jvm.Cond.instanceMethod ({ cls := "StrangeKnivesModel", name := "mark", desc := "(I)V" } : Jvm.MethodName)) ∈ lw_all := lw_g (lw_at lw_m8 208 rfl) rfl
theorem q1992 : (Jvm.Cond.code ({ cls := "StrangeKnivesModel", name := "mark", desc := "(I)V" } : Jvm.MethodName) prog_21_method_20_code (2 : Nat) (Option.none : Option Jvm.ClassFile.FieldType)) ∈ lw_all := lw_g (lw_at lw_m8 209 rfl) rfl
theorem q1993 : (Jvm.Cond.stringRef "StrangeKnivesModel" (268 : Nat) "and") ∈ lw_tbl := lw_at lw_m8 210 rfl
theorem q1994 : (Jvm.Cond.stringRef "StrangeKnivesModel" (273 : Nat) "or") ∈ lw_tbl := lw_at lw_m8 211 rfl
theorem q1995 : (Jvm.Cond.methodLink "StrangeKnivesModel" (294 : Nat) ({ cls := "StrangeKnivesModel", name := "readPerson", desc := "(I)V" } : Jvm.MethodName)) ∈ lw_all := lw_g (lw_at lw_m8 212 rfl) rfl
theorem q1996 : (Jvm.Cond.privateMethod ({ cls := "StrangeKnivesModel", name := "readPerson", desc := "(I)V" } : Jvm.MethodName)) ∈ lw_tbl := lw_at lw_m8 213 rfl
theorem q1997 : (Jvm.Cond.instanceMethod ({ cls := "StrangeKnivesModel", name := "readPerson", desc := "(I)V" } : Jvm.MethodName)) ∈ lw_all := lw_g (lw_at lw_m8 214 rfl) rfl
theorem q1998 : (Jvm.Cond.code ({ cls := "StrangeKnivesModel", name := "readPerson", desc := "(I)V" } : Jvm.MethodName) prog_21_method_31_code (3 : Nat) (Option.none : Option Jvm.ClassFile.FieldType)) ∈ lw_all := lw_g (lw_at lw_m8 215 rfl) rfl
theorem q1999 : (Jvm.Cond.stringRef "StrangeKnivesModel" (297 : Nat) "loaf") ∈ lw_tbl := lw_at lw_m8 216 rfl
theorem q2000 : (Jvm.Cond.methodLink "StrangeKnivesModel" (299 : Nat) ({ cls := "StrangeKnivesModel", name := "readLoaf", desc := "()V" } : Jvm.MethodName)) ∈ lw_all := lw_g (lw_at lw_m8 217 rfl) rfl
theorem q2001 : (Jvm.Cond.privateMethod ({ cls := "StrangeKnivesModel", name := "readLoaf", desc := "()V" } : Jvm.MethodName)) ∈ lw_tbl := lw_at lw_m8 218 rfl
theorem q2002 : (Jvm.Cond.instanceMethod ({ cls := "StrangeKnivesModel", name := "readLoaf", desc := "()V" } : Jvm.MethodName)) ∈ lw_all := lw_g (lw_at lw_m8 219 rfl) rfl
theorem q2003 : (Jvm.Cond.code ({ cls := "StrangeKnivesModel", name := "readLoaf", desc := "()V" } : Jvm.MethodName) prog_21_method_32_code (5 : Nat) (Option.none : Option Jvm.ClassFile.FieldType)) ∈ lw_all := lw_g (lw_at lw_m8 220 rfl) rfl
theorem q2004 : (Jvm.Cond.methodLink "StrangeKnivesModel" (275 : Nat) ({ cls := "StrangeKnivesModel", name := "personNow", desc := "()I" } : Jvm.MethodName)) ∈ lw_all := lw_g (lw_at lw_m8 221 rfl) rfl
theorem q2005 : (Jvm.Cond.privateMethod ({ cls := "StrangeKnivesModel", name := "personNow", desc := "()I" } : Jvm.MethodName)) ∈ lw_tbl := lw_at lw_m8 222 rfl
theorem q2006 : (Jvm.Cond.instanceMethod ({ cls := "StrangeKnivesModel", name := "personNow", desc := "()I" } : Jvm.MethodName)) ∈ lw_all := lw_g (lw_at lw_m8 223 rfl) rfl
theorem q2007 : (Jvm.Cond.code ({ cls := "StrangeKnivesModel", name := "personNow", desc := "()I" } : Jvm.MethodName) prog_21_method_23_code (2 : Nat) (Option.some Jvm.ClassFile.FieldType.int)) ∈ lw_all := lw_g (lw_at lw_m8 224 rfl) rfl
theorem q2008 : (Jvm.Cond.methodLink "StrangeKnivesModel" (278 : Nat) ({ cls := "StrangeKnivesModel", name := "isOf", desc := "(II)Z" } : Jvm.MethodName)) ∈ lw_all := lw_g (lw_at lw_m8 225 rfl) rfl
theorem q2009 : (Jvm.Cond.static ({ cls := "StrangeKnivesModel", name := "isOf", desc := "(II)Z" } : Jvm.MethodName)) ∈ lw_all := lw_g (lw_at lw_m8 226 rfl) rfl
theorem q2010 : (Jvm.Cond.code ({ cls := "StrangeKnivesModel", name := "isOf", desc := "(II)Z" } : Jvm.MethodName) prog_21_method_6_code (2 : Nat) (Option.some Jvm.ClassFile.FieldType.boolean)) ∈ lw_all := lw_g (lw_at lw_m8 227 rfl) rfl
theorem q2011 : (Jvm.Cond.stringRef "StrangeKnivesModel" (302 : Nat) "met") ∈ lw_tbl := lw_at lw_m8 228 rfl
theorem q2012 : (Jvm.Cond.methodLink "StrangeKnivesModel" (304 : Nat) ({ cls := "StrangeKnivesModel", name := "readMet", desc := "()V" } : Jvm.MethodName)) ∈ lw_all := lw_g (lw_at lw_m8 229 rfl) rfl
theorem q2013 : (Jvm.Cond.privateMethod ({ cls := "StrangeKnivesModel", name := "readMet", desc := "()V" } : Jvm.MethodName)) ∈ lw_tbl := lw_at lw_m8 230 rfl
theorem q2014 : (Jvm.Cond.instanceMethod ({ cls := "StrangeKnivesModel", name := "readMet", desc := "()V" } : Jvm.MethodName)) ∈ lw_all := lw_g (lw_at lw_m8 231 rfl) rfl
theorem q2015 : (Jvm.Cond.code ({ cls := "StrangeKnivesModel", name := "readMet", desc := "()V" } : Jvm.MethodName) prog_21_method_33_code (5 : Nat) (Option.none : Option Jvm.ClassFile.FieldType)) ∈ lw_all := lw_g (lw_at lw_m8 232 rfl) rfl
theorem q2016 : (Jvm.Cond.methodLink "StrangeKnivesModel" (282 : Nat) ({ cls := "StrangeKnivesModel", name := "couple", desc := "(II)I" } : Jvm.MethodName)) ∈ lw_all := lw_g (lw_at lw_m8 233 rfl) rfl
theorem q2017 : (Jvm.Cond.static ({ cls := "StrangeKnivesModel", name := "couple", desc := "(II)I" } : Jvm.MethodName)) ∈ lw_all := lw_g (lw_at lw_m8 234 rfl) rfl
theorem q2018 : (Jvm.Cond.code ({ cls := "StrangeKnivesModel", name := "couple", desc := "(II)I" } : Jvm.MethodName) prog_21_method_9_code (2 : Nat) (Option.some Jvm.ClassFile.FieldType.int)) ∈ lw_all := lw_g (lw_at lw_m8 235 rfl) rfl
theorem q2019 : (Jvm.Cond.methodLink "StrangeKnivesModel" (285 : Nat) ({ cls := "java/lang/Math", name := "max", desc := "(II)I" } : Jvm.MethodName)) ∈ lw_all := lw_g (lw_at lw_m8 236 rfl) rfl
theorem q2020 : (Jvm.Cond.methodLink "StrangeKnivesModel" (314 : Nat) ({ cls := "StrangeKnivesModel", name := "takeOver", desc := "()V" } : Jvm.MethodName)) ∈ lw_all := lw_g (lw_at lw_m8 237 rfl) rfl
theorem q2021 : (Jvm.Cond.privateMethod ({ cls := "StrangeKnivesModel", name := "takeOver", desc := "()V" } : Jvm.MethodName)) ∈ lw_tbl := lw_at lw_m8 238 rfl
theorem q2022 : (Jvm.Cond.instanceMethod ({ cls := "StrangeKnivesModel", name := "takeOver", desc := "()V" } : Jvm.MethodName)) ∈ lw_all := lw_g (lw_at lw_m8 239 rfl) rfl
theorem q2023 : (Jvm.Cond.code ({ cls := "StrangeKnivesModel", name := "takeOver", desc := "()V" } : Jvm.MethodName) prog_21_method_37_code (2 : Nat) (Option.none : Option Jvm.ClassFile.FieldType)) ∈ lw_all := lw_g (lw_at lw_m9 0 rfl) rfl
theorem q2024 : (Jvm.Cond.methodLink "StrangeKnivesModel" (317 : Nat) ({ cls := "StrangeKnivesModel", name := "takeHalf", desc := "([I)V" } : Jvm.MethodName)) ∈ lw_all := lw_g (lw_at lw_m9 1 rfl) rfl
theorem q2025 : (Jvm.Cond.static ({ cls := "StrangeKnivesModel", name := "takeHalf", desc := "([I)V" } : Jvm.MethodName)) ∈ lw_all := lw_g (lw_at lw_m9 2 rfl) rfl
theorem q2026 : (Jvm.Cond.code ({ cls := "StrangeKnivesModel", name := "takeHalf", desc := "([I)V" } : Jvm.MethodName) prog_21_method_36_code (2 : Nat) (Option.none : Option Jvm.ClassFile.FieldType)) ∈ lw_all := lw_g (lw_at lw_m9 3 rfl) rfl
theorem q2028 : (Jvm.Cond.instanceMethod ({ cls := "StrangeKnivesModel", name := "fault", desc := "()I" } : Jvm.MethodName)) ∈ lw_all := lw_g (lw_at lw_m9 5 rfl) rfl
theorem q2029 : (Jvm.Cond.selects "StrangeKnivesModel" ({ cls := "StrangeKnivesModel", name := "fault", desc := "()I" } : Jvm.MethodName) ({ cls := "StrangeKnivesModel", name := "fault", desc := "()I" } : Jvm.MethodName)) ∈ lw_all := lw_g (lw_at lw_m9 6 rfl) rfl
theorem q2030 : (Jvm.Cond.code ({ cls := "StrangeKnivesModel", name := "fault", desc := "()I" } : Jvm.MethodName) prog_21_method_38_code (1 : Nat) (Option.some Jvm.ClassFile.FieldType.int)) ∈ lw_all := lw_g (lw_at lw_m9 7 rfl) rfl
theorem q2032 : (Jvm.Cond.instanceMethod ({ cls := "StrangeKnivesModel", name := "count", desc := "(I)I" } : Jvm.MethodName)) ∈ lw_all := lw_g (lw_at lw_m9 9 rfl) rfl
theorem q2033 : (Jvm.Cond.selects "StrangeKnivesModel" ({ cls := "StrangeKnivesModel", name := "count", desc := "(I)I" } : Jvm.MethodName) ({ cls := "StrangeKnivesModel", name := "count", desc := "(I)I" } : Jvm.MethodName)) ∈ lw_all := lw_g (lw_at lw_m9 10 rfl) rfl
theorem q2034 : (Jvm.Cond.code ({ cls := "StrangeKnivesModel", name := "count", desc := "(I)I" } : Jvm.MethodName) prog_21_method_58_code (4 : Nat) (Option.some Jvm.ClassFile.FieldType.int)) ∈ lw_all := lw_g (lw_at lw_m9 11 rfl) rfl
theorem q2035 : (Jvm.Cond.methodLink "StrangeKnivesModel" (386 : Nat) ({ cls := "StrangeKnivesModel", name := "knownBoth", desc := "()I" } : Jvm.MethodName)) ∈ lw_all := lw_g (lw_at lw_m9 12 rfl) rfl
theorem q2036 : (Jvm.Cond.privateMethod ({ cls := "StrangeKnivesModel", name := "knownBoth", desc := "()I" } : Jvm.MethodName)) ∈ lw_tbl := lw_at lw_m9 13 rfl
theorem q2037 : (Jvm.Cond.instanceMethod ({ cls := "StrangeKnivesModel", name := "knownBoth", desc := "()I" } : Jvm.MethodName)) ∈ lw_all := lw_g (lw_at lw_m9 14 rfl) rfl
theorem q2038 : (Jvm.Cond.code ({ cls := "StrangeKnivesModel", name := "knownBoth", desc := "()I" } : Jvm.MethodName) prog_21_method_45_code (4 : Nat) (Option.some Jvm.ClassFile.FieldType.int)) ∈ lw_all := lw_g (lw_at lw_m9 15 rfl) rfl
theorem q2039 : (Jvm.Cond.methodLink "StrangeKnivesModel" (349 : Nat) ({ cls := "StrangeKnivesModel", name := "isKnown", desc := "(II)Z" } : Jvm.MethodName)) ∈ lw_all := lw_g (lw_at lw_m9 16 rfl) rfl
theorem q2040 : (Jvm.Cond.privateMethod ({ cls := "StrangeKnivesModel", name := "isKnown", desc := "(II)Z" } : Jvm.MethodName)) ∈ lw_tbl := lw_at lw_m9 17 rfl
theorem q2041 : (Jvm.Cond.instanceMethod ({ cls := "StrangeKnivesModel", name := "isKnown", desc := "(II)Z" } : Jvm.MethodName)) ∈ lw_all := lw_g (lw_at lw_m9 18 rfl) rfl
theorem q2042 : (Jvm.Cond.code ({ cls := "StrangeKnivesModel", name := "isKnown", desc := "(II)Z" } : Jvm.MethodName) prog_21_method_43_code (3 : Nat) (Option.some Jvm.ClassFile.FieldType.boolean)) ∈ lw_all := lw_g (lw_at lw_m9 19 rfl) rfl
theorem q2043 : (Jvm.Cond.methodLink "StrangeKnivesModel" (343 : Nat) ({ cls := "StrangeKnivesModel", name := "twinOf", desc := "(I)I" } : Jvm.MethodName)) ∈ lw_all := lw_g (lw_at lw_m9 20 rfl) rfl
theorem q2044 : (Jvm.Cond.privateMethod ({ cls := "StrangeKnivesModel", name := "twinOf", desc := "(I)I" } : Jvm.MethodName)) ∈ lw_tbl := lw_at lw_m9 21 rfl
theorem q2045 : (Jvm.Cond.instanceMethod ({ cls := "StrangeKnivesModel", name := "twinOf", desc := "(I)I" } : Jvm.MethodName)) ∈ lw_all := lw_g (lw_at lw_m9 22 rfl) rfl
theorem q2046 : (Jvm.Cond.code ({ cls := "StrangeKnivesModel", name := "twinOf", desc := "(I)I" } : Jvm.MethodName) prog_21_method_41_code (2 : Nat) (Option.some Jvm.ClassFile.FieldType.int)) ∈ lw_all := lw_g (lw_at lw_m9 23 rfl) rfl
theorem q2047 : (Jvm.Cond.methodLink "StrangeKnivesModel" (346 : Nat) ({ cls := "StrangeKnivesModel", name := "lastDay", desc := "(II)I" } : Jvm.MethodName)) ∈ lw_all := lw_g (lw_at lw_m9 24 rfl) rfl
theorem q2048 : (Jvm.Cond.privateMethod ({ cls := "StrangeKnivesModel", name := "lastDay", desc := "(II)I" } : Jvm.MethodName)) ∈ lw_tbl := lw_at lw_m9 25 rfl
theorem q2049 : (Jvm.Cond.instanceMethod ({ cls := "StrangeKnivesModel", name := "lastDay", desc := "(II)I" } : Jvm.MethodName)) ∈ lw_all := lw_g (lw_at lw_m9 26 rfl) rfl
theorem q2050 : (Jvm.Cond.code ({ cls := "StrangeKnivesModel", name := "lastDay", desc := "(II)I" } : Jvm.MethodName) prog_21_method_42_code (6 : Nat) (Option.some Jvm.ClassFile.FieldType.int)) ∈ lw_all := lw_g (lw_at lw_m9 27 rfl) rfl
theorem q2052 : (Jvm.Cond.instanceMethod ({ cls := "StrangeKnivesModel", name := "person", desc := "(II)I" } : Jvm.MethodName)) ∈ lw_all := lw_g (lw_at lw_m9 29 rfl) rfl
theorem q2053 : (Jvm.Cond.selects "StrangeKnivesModel" ({ cls := "StrangeKnivesModel", name := "person", desc := "(II)I" } : Jvm.MethodName) ({ cls := "StrangeKnivesModel", name := "person", desc := "(II)I" } : Jvm.MethodName)) ∈ lw_all := lw_g (lw_at lw_m9 30 rfl) rfl
theorem q2054 : (Jvm.Cond.code ({ cls := "StrangeKnivesModel", name := "person", desc := "(II)I" } : Jvm.MethodName) prog_21_method_59_code (5 : Nat) (Option.some Jvm.ClassFile.FieldType.int)) ∈ lw_all := lw_g (lw_at lw_m9 31 rfl) rfl
theorem q2055 : (Jvm.Cond.methodLink "StrangeKnivesModel" (389 : Nat) ({ cls := "StrangeKnivesModel", name := "isPerson", desc := "(I)Z" } : Jvm.MethodName)) ∈ lw_all := lw_g (lw_at lw_m9 32 rfl) rfl
theorem q2056 : (Jvm.Cond.privateMethod ({ cls := "StrangeKnivesModel", name := "isPerson", desc := "(I)Z" } : Jvm.MethodName)) ∈ lw_tbl := lw_at lw_m9 33 rfl
theorem q2057 : (Jvm.Cond.instanceMethod ({ cls := "StrangeKnivesModel", name := "isPerson", desc := "(I)Z" } : Jvm.MethodName)) ∈ lw_all := lw_g (lw_at lw_m9 34 rfl) rfl
theorem q2058 : (Jvm.Cond.code ({ cls := "StrangeKnivesModel", name := "isPerson", desc := "(I)Z" } : Jvm.MethodName) prog_21_method_7_code (2 : Nat) (Option.some Jvm.ClassFile.FieldType.boolean)) ∈ lw_all := lw_g (lw_at lw_m9 35 rfl) rfl
theorem q2059 : (Jvm.Cond.methodLink "StrangeKnivesModel" (162 : Nat) ({ cls := "StrangeKnivesModel", name := "isIn", desc := "(JJJ)Z" } : Jvm.MethodName)) ∈ lw_all := lw_g (lw_at lw_m9 36 rfl) rfl
theorem q2060 : (Jvm.Cond.static ({ cls := "StrangeKnivesModel", name := "isIn", desc := "(JJJ)Z" } : Jvm.MethodName)) ∈ lw_all := lw_g (lw_at lw_m9 37 rfl) rfl
theorem q2061 : (Jvm.Cond.code ({ cls := "StrangeKnivesModel", name := "isIn", desc := "(JJJ)Z" } : Jvm.MethodName) prog_21_method_5_code (6 : Nat) (Option.some Jvm.ClassFile.FieldType.boolean)) ∈ lw_all := lw_g (lw_at lw_m9 38 rfl) rfl
theorem q2063 : (Jvm.Cond.instanceMethod ({ cls := "StrangeKnivesModel", name := "loaf", desc := "(II)I" } : Jvm.MethodName)) ∈ lw_all := lw_g (lw_at lw_m9 40 rfl) rfl
theorem q2064 : (Jvm.Cond.selects "StrangeKnivesModel" ({ cls := "StrangeKnivesModel", name := "loaf", desc := "(II)I" } : Jvm.MethodName) ({ cls := "StrangeKnivesModel", name := "loaf", desc := "(II)I" } : Jvm.MethodName)) ∈ lw_all := lw_g (lw_at lw_m9 41 rfl) rfl
theorem q2065 : (Jvm.Cond.code ({ cls := "StrangeKnivesModel", name := "loaf", desc := "(II)I" } : Jvm.MethodName) prog_21_method_60_code (3 : Nat) (Option.some Jvm.ClassFile.FieldType.int)) ∈ lw_all := lw_g (lw_at lw_m9 42 rfl) rfl
theorem q2066 : (Jvm.Cond.methodLink "StrangeKnivesModel" (392 : Nat) ({ cls := "StrangeKnivesModel", name := "isLoaf", desc := "(I)Z" } : Jvm.MethodName)) ∈ lw_all := lw_g (lw_at lw_m9 43 rfl) rfl
theorem q2067 : (Jvm.Cond.privateMethod ({ cls := "StrangeKnivesModel", name := "isLoaf", desc := "(I)Z" } : Jvm.MethodName)) ∈ lw_tbl := lw_at lw_m9 44 rfl
theorem q2068 : (Jvm.Cond.instanceMethod ({ cls := "StrangeKnivesModel", name := "isLoaf", desc := "(I)Z" } : Jvm.MethodName)) ∈ lw_all := lw_g (lw_at lw_m9 45 rfl) rfl
theorem q2069 : (Jvm.Cond.code ({ cls := "StrangeKnivesModel", name := "isLoaf", desc := "(I)Z" } : Jvm.MethodName) prog_21_method_8_code (2 : Nat) (Option.some Jvm.ClassFile.FieldType.boolean)) ∈ lw_all := lw_g (lw_at lw_m9 46 rfl) rfl
theorem q2070 : (Jvm.Cond.methodLink "StrangeKnivesModel" (352 : Nat) ({ cls := "StrangeKnivesModel", name := "eatersOf", desc := "(I)I" } : Jvm.MethodName)) ∈ lw_all := lw_g (lw_at lw_m9 47 rfl) rfl
theorem q2071 : (Jvm.Cond.privateMethod ({ cls := "StrangeKnivesModel", name := "eatersOf", desc := "(I)I" } : Jvm.MethodName)) ∈ lw_tbl := lw_at lw_m9 48 rfl
theorem q2072 : (Jvm.Cond.instanceMethod ({ cls := "StrangeKnivesModel", name := "eatersOf", desc := "(I)I" } : Jvm.MethodName)) ∈ lw_all := lw_g (lw_at lw_m9 49 rfl) rfl
theorem q2073 : (Jvm.Cond.code ({ cls := "StrangeKnivesModel", name := "eatersOf", desc := "(I)I" } : Jvm.MethodName) prog_21_method_46_code (4 : Nat) (Option.some Jvm.ClassFile.FieldType.int)) ∈ lw_all := lw_g (lw_at lw_m9 50 rfl) rfl
theorem q2074 : (Jvm.Cond.methodLink "StrangeKnivesModel" (377 : Nat) ({ cls := "StrangeKnivesModel", name := "tellUnits", desc := "(I)V" } : Jvm.MethodName)) ∈ lw_all := lw_g (lw_at lw_m9 51 rfl) rfl
theorem q2075 : (Jvm.Cond.privateMethod ({ cls := "StrangeKnivesModel", name := "tellUnits", desc := "(I)V" } : Jvm.MethodName)) ∈ lw_tbl := lw_at lw_m9 52 rfl
theorem q2076 : (Jvm.Cond.instanceMethod ({ cls := "StrangeKnivesModel", name := "tellUnits", desc := "(I)V" } : Jvm.MethodName)) ∈ lw_all := lw_g (lw_at lw_m9 53 rfl) rfl
theorem q2077 : (Jvm.Cond.code ({ cls := "StrangeKnivesModel", name := "tellUnits", desc := "(I)V" } : Jvm.MethodName) prog_21_method_55_code (4 : Nat) (Option.none : Option Jvm.ClassFile.FieldType)) ∈ lw_all := lw_g (lw_at lw_m9 54 rfl) rfl
theorem q2078 : (Jvm.Cond.methodLink "StrangeKnivesModel" (395 : Nat) ({ cls := "StrangeKnivesModel", name := "answering", desc := "(II)I" } : Jvm.MethodName)) ∈ lw_all := lw_g (lw_at lw_m9 55 rfl) rfl
theorem q2079 : (Jvm.Cond.privateMethod ({ cls := "StrangeKnivesModel", name := "answering", desc := "(II)I" } : Jvm.MethodName)) ∈ lw_tbl := lw_at lw_m9 56 rfl
theorem q2080 : (Jvm.Cond.instanceMethod ({ cls := "StrangeKnivesModel", name := "answering", desc := "(II)I" } : Jvm.MethodName)) ∈ lw_all := lw_g (lw_at lw_m9 57 rfl) rfl
theorem q2081 : (Jvm.Cond.code ({ cls := "StrangeKnivesModel", name := "answering", desc := "(II)I" } : Jvm.MethodName) prog_21_method_61_code (5 : Nat) (Option.some Jvm.ClassFile.FieldType.int)) ∈ lw_all := lw_g (lw_at lw_m9 58 rfl) rfl
theorem q2082 : (Jvm.Cond.methodLink "StrangeKnivesModel" (361 : Nat) ({ cls := "StrangeKnivesModel", name := "mayNow", desc := "(II)I" } : Jvm.MethodName)) ∈ lw_all := lw_g (lw_at lw_m9 59 rfl) rfl
theorem q2083 : (Jvm.Cond.privateMethod ({ cls := "StrangeKnivesModel", name := "mayNow", desc := "(II)I" } : Jvm.MethodName)) ∈ lw_tbl := lw_at lw_m9 60 rfl
theorem q2084 : (Jvm.Cond.instanceMethod ({ cls := "StrangeKnivesModel", name := "mayNow", desc := "(II)I" } : Jvm.MethodName)) ∈ lw_all := lw_g (lw_at lw_m9 61 rfl) rfl
theorem q2085 : (Jvm.Cond.code ({ cls := "StrangeKnivesModel", name := "mayNow", desc := "(II)I" } : Jvm.MethodName) prog_21_method_49_code (4 : Nat) (Option.some Jvm.ClassFile.FieldType.int)) ∈ lw_all := lw_g (lw_at lw_m9 62 rfl) rfl
theorem q2086 : (Jvm.Cond.methodLink "StrangeKnivesModel" (355 : Nat) ({ cls := "StrangeKnivesModel", name := "eats", desc := "(II)Z" } : Jvm.MethodName)) ∈ lw_all := lw_g (lw_at lw_m9 63 rfl) rfl
theorem q2087 : (Jvm.Cond.privateMethod ({ cls := "StrangeKnivesModel", name := "eats", desc := "(II)Z" } : Jvm.MethodName)) ∈ lw_tbl := lw_at lw_m9 64 rfl
theorem q2088 : (Jvm.Cond.instanceMethod ({ cls := "StrangeKnivesModel", name := "eats", desc := "(II)Z" } : Jvm.MethodName)) ∈ lw_all := lw_g (lw_at lw_m9 65 rfl) rfl
theorem q2089 : (Jvm.Cond.code ({ cls := "StrangeKnivesModel", name := "eats", desc := "(II)Z" } : Jvm.MethodName) prog_21_method_47_code (4 : Nat) (Option.some Jvm.ClassFile.FieldType.boolean)) ∈ lw_all := lw_g (lw_at lw_m9 66 rfl) rfl
theorem q2090 : (Jvm.Cond.methodLink "StrangeKnivesModel" (358 : Nat) ({ cls := "StrangeKnivesModel", name := "knowsEater", desc := "(II)Z" } : Jvm.MethodName)) ∈ lw_all := lw_g (lw_at lw_m9 67 rfl) rfl
theorem q2091 : (Jvm.Cond.privateMethod ({ cls := "StrangeKnivesModel", name := "knowsEater", desc := "(II)Z" } : Jvm.MethodName)) ∈ lw_tbl := lw_at lw_m9 68 rfl
theorem q2092 : (Jvm.Cond.instanceMethod ({ cls := "StrangeKnivesModel", name := "knowsEater", desc := "(II)Z" } : Jvm.MethodName)) ∈ lw_all := lw_g (lw_at lw_m9 69 rfl) rfl
theorem q2093 : (Jvm.Cond.code ({ cls := "StrangeKnivesModel", name := "knowsEater", desc := "(II)Z" } : Jvm.MethodName) prog_21_method_48_code (5 : Nat) (Option.some Jvm.ClassFile.FieldType.boolean)) ∈ lw_all := lw_g (lw_at lw_m9 70 rfl) rfl
theorem q2095 : (Jvm.Cond.instanceMethod ({ cls := "StrangeKnivesModel", name := "met", desc := "(II)I" } : Jvm.MethodName)) ∈ lw_all := lw_g (lw_at lw_m9 72 rfl) rfl
theorem q2096 : (Jvm.Cond.selects "StrangeKnivesModel" ({ cls := "StrangeKnivesModel", name := "met", desc := "(II)I" } : Jvm.MethodName) ({ cls := "StrangeKnivesModel", name := "met", desc := "(II)I" } : Jvm.MethodName)) ∈ lw_all := lw_g (lw_at lw_m9 73 rfl) rfl
theorem q2097 : (Jvm.Cond.code ({ cls := "StrangeKnivesModel", name := "met", desc := "(II)I" } : Jvm.MethodName) prog_21_method_62_code (3 : Nat) (Option.some Jvm.ClassFile.FieldType.int)) ∈ lw_all := lw_g (lw_at lw_m9 74 rfl) rfl
theorem q2099 : (Jvm.Cond.instanceMethod ({ cls := "StrangeKnivesModel", name := "knows", desc := "(II)Z" } : Jvm.MethodName)) ∈ lw_all := lw_g (lw_at lw_m9 76 rfl) rfl
theorem q2100 : (Jvm.Cond.selects "StrangeKnivesModel" ({ cls := "StrangeKnivesModel", name := "knows", desc := "(II)Z" } : Jvm.MethodName) ({ cls := "StrangeKnivesModel", name := "knows", desc := "(II)Z" } : Jvm.MethodName)) ∈ lw_all := lw_g (lw_at lw_m9 77 rfl) rfl
theorem q2101 : (Jvm.Cond.code ({ cls := "StrangeKnivesModel", name := "knows", desc := "(II)Z" } : Jvm.MethodName) prog_21_method_63_code (3 : Nat) (Option.some Jvm.ClassFile.FieldType.boolean)) ∈ lw_all := lw_g (lw_at lw_m9 78 rfl) rfl
theorem q2102 : (Jvm.Cond.methodLink "StrangeKnivesModel" (398 : Nat) ({ cls := "StrangeKnivesModel", name := "failing", desc := "(I)Z" } : Jvm.MethodName)) ∈ lw_all := lw_g (lw_at lw_m9 79 rfl) rfl
theorem q2103 : (Jvm.Cond.privateMethod ({ cls := "StrangeKnivesModel", name := "failing", desc := "(I)Z" } : Jvm.MethodName)) ∈ lw_tbl := lw_at lw_m9 80 rfl
theorem q2104 : (Jvm.Cond.instanceMethod ({ cls := "StrangeKnivesModel", name := "failing", desc := "(I)Z" } : Jvm.MethodName)) ∈ lw_all := lw_g (lw_at lw_m9 81 rfl) rfl
theorem q2105 : (Jvm.Cond.code ({ cls := "StrangeKnivesModel", name := "failing", desc := "(I)Z" } : Jvm.MethodName) prog_21_method_4_code (2 : Nat) (Option.some Jvm.ClassFile.FieldType.boolean)) ∈ lw_all := lw_g (lw_at lw_m9 82 rfl) rfl
theorem q2107 : (Jvm.Cond.instanceMethod ({ cls := "StrangeKnivesModel", name := "may", desc := "(II)I" } : Jvm.MethodName)) ∈ lw_all := lw_g (lw_at lw_m9 84 rfl) rfl
theorem q2108 : (Jvm.Cond.selects "StrangeKnivesModel" ({ cls := "StrangeKnivesModel", name := "may", desc := "(II)I" } : Jvm.MethodName) ({ cls := "StrangeKnivesModel", name := "may", desc := "(II)I" } : Jvm.MethodName)) ∈ lw_all := lw_g (lw_at lw_m9 85 rfl) rfl
theorem q2109 : (Jvm.Cond.code ({ cls := "StrangeKnivesModel", name := "may", desc := "(II)I" } : Jvm.MethodName) prog_21_method_64_code (3 : Nat) (Option.some Jvm.ClassFile.FieldType.int)) ∈ lw_all := lw_g (lw_at lw_m9 86 rfl) rfl
theorem q2111 : (Jvm.Cond.instanceMethod ({ cls := "StrangeKnivesModel", name := "slice", desc := "(III)I" } : Jvm.MethodName)) ∈ lw_all := lw_g (lw_at lw_m9 88 rfl) rfl
theorem q2112 : (Jvm.Cond.selects "StrangeKnivesModel" ({ cls := "StrangeKnivesModel", name := "slice", desc := "(III)I" } : Jvm.MethodName) ({ cls := "StrangeKnivesModel", name := "slice", desc := "(III)I" } : Jvm.MethodName)) ∈ lw_all := lw_g (lw_at lw_m9 89 rfl) rfl
theorem q2113 : (Jvm.Cond.code ({ cls := "StrangeKnivesModel", name := "slice", desc := "(III)I" } : Jvm.MethodName) prog_21_method_65_code (4 : Nat) (Option.some Jvm.ClassFile.FieldType.int)) ∈ lw_all := lw_g (lw_at lw_m9 90 rfl) rfl
theorem q2114 : (Jvm.Cond.constantLong "StrangeKnivesModel" (401 : Nat) (-1 : Int64)) ∈ lw_all := lw_g (lw_at lw_m9 91 rfl) rfl
theorem q2115 : (Jvm.Cond.methodLink "StrangeKnivesModel" (403 : Nat) ({ cls := "StrangeKnivesModel", name := "tellSlices", desc := "(II)V" } : Jvm.MethodName)) ∈ lw_all := lw_g (lw_at lw_m9 92 rfl) rfl
theorem q2116 : (Jvm.Cond.privateMethod ({ cls := "StrangeKnivesModel", name := "tellSlices", desc := "(II)V" } : Jvm.MethodName)) ∈ lw_tbl := lw_at lw_m9 93 rfl
theorem q2117 : (Jvm.Cond.instanceMethod ({ cls := "StrangeKnivesModel", name := "tellSlices", desc := "(II)V" } : Jvm.MethodName)) ∈ lw_all := lw_g (lw_at lw_m9 94 rfl) rfl
theorem q2118 : (Jvm.Cond.code ({ cls := "StrangeKnivesModel", name := "tellSlices", desc := "(II)V" } : Jvm.MethodName) prog_21_method_56_code (8 : Nat) (Option.none : Option Jvm.ClassFile.FieldType)) ∈ lw_all := lw_g (lw_at lw_m9 95 rfl) rfl
theorem q2119 : (Jvm.Cond.methodLink "StrangeKnivesModel" (380 : Nat) ({ cls := "StrangeKnivesModel", name := "shareOf", desc := "(III)I" } : Jvm.MethodName)) ∈ lw_all := lw_g (lw_at lw_m9 96 rfl) rfl
theorem q2120 : (Jvm.Cond.privateMethod ({ cls := "StrangeKnivesModel", name := "shareOf", desc := "(III)I" } : Jvm.MethodName)) ∈ lw_tbl := lw_at lw_m9 97 rfl
theorem q2121 : (Jvm.Cond.instanceMethod ({ cls := "StrangeKnivesModel", name := "shareOf", desc := "(III)I" } : Jvm.MethodName)) ∈ lw_all := lw_g (lw_at lw_m9 98 rfl) rfl
theorem q2122 : (Jvm.Cond.code ({ cls := "StrangeKnivesModel", name := "shareOf", desc := "(III)I" } : Jvm.MethodName) prog_21_method_54_code (4 : Nat) (Option.some Jvm.ClassFile.FieldType.int)) ∈ lw_all := lw_g (lw_at lw_m9 99 rfl) rfl
theorem q2123 : (Jvm.Cond.methodLink "StrangeKnivesModel" (374 : Nat) ({ cls := "StrangeKnivesModel", name := "valueNow", desc := "()I" } : Jvm.MethodName)) ∈ lw_all := lw_g (lw_at lw_m9 100 rfl) rfl
theorem q2124 : (Jvm.Cond.privateMethod ({ cls := "StrangeKnivesModel", name := "valueNow", desc := "()I" } : Jvm.MethodName)) ∈ lw_tbl := lw_at lw_m9 101 rfl
theorem q2125 : (Jvm.Cond.instanceMethod ({ cls := "StrangeKnivesModel", name := "valueNow", desc := "()I" } : Jvm.MethodName)) ∈ lw_all := lw_g (lw_at lw_m9 102 rfl) rfl
theorem q2126 : (Jvm.Cond.code ({ cls := "StrangeKnivesModel", name := "valueNow", desc := "()I" } : Jvm.MethodName) prog_21_method_53_code (4 : Nat) (Option.some Jvm.ClassFile.FieldType.int)) ∈ lw_all := lw_g (lw_at lw_m9 103 rfl) rfl
theorem q2127 : (Jvm.Cond.methodLink "StrangeKnivesModel" (367 : Nat) ({ cls := "StrangeKnivesModel", name := "reckon", desc := "(III)I" } : Jvm.MethodName)) ∈ lw_all := lw_g (lw_at lw_m9 104 rfl) rfl
theorem q2128 : (Jvm.Cond.static ({ cls := "StrangeKnivesModel", name := "reckon", desc := "(III)I" } : Jvm.MethodName)) ∈ lw_all := lw_g (lw_at lw_m9 105 rfl) rfl
theorem q2129 : (Jvm.Cond.code ({ cls := "StrangeKnivesModel", name := "reckon", desc := "(III)I" } : Jvm.MethodName) prog_21_method_52_code (3 : Nat) (Option.some Jvm.ClassFile.FieldType.int)) ∈ lw_all := lw_g (lw_at lw_m9 106 rfl) rfl
theorem q2131 : (Jvm.Cond.instanceMethod ({ cls := "StrangeKnivesModel", name := "cut", desc := "(II)Z" } : Jvm.MethodName)) ∈ lw_all := lw_g (lw_at lw_m9 108 rfl) rfl
theorem q2132 : (Jvm.Cond.selects "StrangeKnivesModel" ({ cls := "StrangeKnivesModel", name := "cut", desc := "(II)Z" } : Jvm.MethodName) ({ cls := "StrangeKnivesModel", name := "cut", desc := "(II)Z" } : Jvm.MethodName)) ∈ lw_all := lw_g (lw_at lw_m9 109 rfl) rfl
theorem q2133 : (Jvm.Cond.code ({ cls := "StrangeKnivesModel", name := "cut", desc := "(II)Z" } : Jvm.MethodName) prog_21_method_68_code (3 : Nat) (Option.some Jvm.ClassFile.FieldType.boolean)) ∈ lw_all := lw_g (lw_at lw_m9 110 rfl) rfl
theorem q2134 : (Jvm.Cond.methodLink "StrangeKnivesModel" (411 : Nat) ({ cls := "StrangeKnivesModel", name := "keep", desc := "()V" } : Jvm.MethodName)) ∈ lw_all := lw_g (lw_at lw_m9 111 rfl) rfl
theorem q2135 : (Jvm.Cond.privateMethod ({ cls := "StrangeKnivesModel", name := "keep", desc := "()V" } : Jvm.MethodName)) ∈ lw_tbl := lw_at lw_m9 112 rfl
theorem q2136 : (Jvm.Cond.instanceMethod ({ cls := "StrangeKnivesModel", name := "keep", desc := "()V" } : Jvm.MethodName)) ∈ lw_all := lw_g (lw_at lw_m9 113 rfl) rfl
theorem q2137 : (Jvm.Cond.code ({ cls := "StrangeKnivesModel", name := "keep", desc := "()V" } : Jvm.MethodName) prog_21_method_67_code (2 : Nat) (Option.none : Option Jvm.ClassFile.FieldType)) ∈ lw_all := lw_g (lw_at lw_m9 114 rfl) rfl
theorem q2138 : (Jvm.Cond.methodLink "StrangeKnivesModel" (407 : Nat) ({ cls := "StrangeKnivesModel", name := "pack", desc := "([II)V" } : Jvm.MethodName)) ∈ lw_all := lw_g (lw_at lw_m9 115 rfl) rfl
theorem q2139 : (Jvm.Cond.privateMethod ({ cls := "StrangeKnivesModel", name := "pack", desc := "([II)V" } : Jvm.MethodName)) ∈ lw_tbl := lw_at lw_m9 116 rfl
theorem q2140 : (Jvm.Cond.instanceMethod ({ cls := "StrangeKnivesModel", name := "pack", desc := "([II)V" } : Jvm.MethodName)) ∈ lw_all := lw_g (lw_at lw_m9 117 rfl) rfl
theorem q2141 : (Jvm.Cond.code ({ cls := "StrangeKnivesModel", name := "pack", desc := "([II)V" } : Jvm.MethodName) prog_21_method_39_code (5 : Nat) (Option.none : Option Jvm.ClassFile.FieldType)) ∈ lw_all := lw_g (lw_at lw_m9 118 rfl) rfl
theorem q2143 : (Jvm.Cond.instanceMethod ({ cls := "StrangeKnivesModel", name := "thank", desc := "(II)I" } : Jvm.MethodName)) ∈ lw_all := lw_g (lw_at lw_m9 120 rfl) rfl
theorem q2144 : (Jvm.Cond.selects "StrangeKnivesModel" ({ cls := "StrangeKnivesModel", name := "thank", desc := "(II)I" } : Jvm.MethodName) ({ cls := "StrangeKnivesModel", name := "thank", desc := "(II)I" } : Jvm.MethodName)) ∈ lw_all := lw_g (lw_at lw_m9 121 rfl) rfl
theorem q2145 : (Jvm.Cond.code ({ cls := "StrangeKnivesModel", name := "thank", desc := "(II)I" } : Jvm.MethodName) prog_21_method_69_code (3 : Nat) (Option.some Jvm.ClassFile.FieldType.int)) ∈ lw_all := lw_g (lw_at lw_m9 122 rfl) rfl
theorem q2146 : (Jvm.Cond.methodLink "StrangeKnivesModel" (414 : Nat) ({ cls := "StrangeKnivesModel", name := "refuse", desc := "(I)I" } : Jvm.MethodName)) ∈ lw_all := lw_g (lw_at lw_m9 123 rfl) rfl
theorem q2147 : (Jvm.Cond.privateMethod ({ cls := "StrangeKnivesModel", name := "refuse", desc := "(I)I" } : Jvm.MethodName)) ∈ lw_tbl := lw_at lw_m9 124 rfl
theorem q2148 : (Jvm.Cond.instanceMethod ({ cls := "StrangeKnivesModel", name := "refuse", desc := "(I)I" } : Jvm.MethodName)) ∈ lw_all := lw_g (lw_at lw_m9 125 rfl) rfl
theorem q2149 : (Jvm.Cond.code ({ cls := "StrangeKnivesModel", name := "refuse", desc := "(I)I" } : Jvm.MethodName) prog_21_method_66_code (2 : Nat) (Option.some Jvm.ClassFile.FieldType.int)) ∈ lw_all := lw_g (lw_at lw_m9 126 rfl) rfl
theorem q2150 : (Jvm.Cond.methodLink "StrangeKnivesModel" (417 : Nat) ({ cls := "StrangeKnivesModel", name := "meet", desc := "(III)V" } : Jvm.MethodName)) ∈ lw_all := lw_g (lw_at lw_m9 127 rfl) rfl
theorem q2151 : (Jvm.Cond.privateMethod ({ cls := "StrangeKnivesModel", name := "meet", desc := "(III)V" } : Jvm.MethodName)) ∈ lw_tbl := lw_at lw_m9 128 rfl
theorem q2152 : (Jvm.Cond.instanceMethod ({ cls := "StrangeKnivesModel", name := "meet", desc := "(III)V" } : Jvm.MethodName)) ∈ lw_all := lw_g (lw_at lw_m9 129 rfl) rfl
theorem q2153 : (Jvm.Cond.code ({ cls := "StrangeKnivesModel", name := "meet", desc := "(III)V" } : Jvm.MethodName) prog_21_method_44_code (4 : Nat) (Option.none : Option Jvm.ClassFile.FieldType)) ∈ lw_all := lw_g (lw_at lw_m9 130 rfl) rfl
theorem q2155 : (Jvm.Cond.instanceMethod ({ cls := "StrangeKnivesModel", name := "fair", desc := "(I)I" } : Jvm.MethodName)) ∈ lw_all := lw_g (lw_at lw_m9 132 rfl) rfl
theorem q2156 : (Jvm.Cond.selects "StrangeKnivesModel" ({ cls := "StrangeKnivesModel", name := "fair", desc := "(I)I" } : Jvm.MethodName) ({ cls := "StrangeKnivesModel", name := "fair", desc := "(I)I" } : Jvm.MethodName)) ∈ lw_all := lw_g (lw_at lw_m9 133 rfl) rfl
theorem q2157 : (Jvm.Cond.code ({ cls := "StrangeKnivesModel", name := "fair", desc := "(I)I" } : Jvm.MethodName) prog_21_method_71_code (2 : Nat) (Option.some Jvm.ClassFile.FieldType.int)) ∈ lw_all := lw_g (lw_at lw_m9 134 rfl) rfl
theorem q2158 : (Jvm.Cond.methodLink "StrangeKnivesModel" (421 : Nat) ({ cls := "StrangeKnivesModel", name := "bitsOf", desc := "(I)I" } : Jvm.MethodName)) ∈ lw_all := lw_g (lw_at lw_m9 135 rfl) rfl
theorem q2159 : (Jvm.Cond.static ({ cls := "StrangeKnivesModel", name := "bitsOf", desc := "(I)I" } : Jvm.MethodName)) ∈ lw_all := lw_g (lw_at lw_m9 136 rfl) rfl
theorem q2160 : (Jvm.Cond.code ({ cls := "StrangeKnivesModel", name := "bitsOf", desc := "(I)I" } : Jvm.MethodName) prog_21_method_57_code (3 : Nat) (Option.some Jvm.ClassFile.FieldType.int)) ∈ lw_all := lw_g (lw_at lw_m9 137 rfl) rfl
theorem q2161 : (Jvm.Cond.methodLink "StrangeKnivesModel" (424 : Nat) ({ cls := "StrangeKnivesModel", name := "fairOf", desc := "(I)V" } : Jvm.MethodName)) ∈ lw_all := lw_g (lw_at lw_m9 138 rfl) rfl
theorem q2162 : (Jvm.Cond.privateMethod ({ cls := "StrangeKnivesModel", name := "fairOf", desc := "(I)V" } : Jvm.MethodName)) ∈ lw_tbl := lw_at lw_m9 139 rfl
theorem q2163 : (Jvm.Cond.instanceMethod ({ cls := "StrangeKnivesModel", name := "fairOf", desc := "(I)V" } : Jvm.MethodName)) ∈ lw_all := lw_g (lw_at lw_m9 140 rfl) rfl
theorem q2164 : (Jvm.Cond.code ({ cls := "StrangeKnivesModel", name := "fairOf", desc := "(I)V" } : Jvm.MethodName) prog_21_method_70_code (4 : Nat) (Option.none : Option Jvm.ClassFile.FieldType)) ∈ lw_all := lw_g (lw_at lw_m9 141 rfl) rfl
theorem q2166 : (Jvm.Cond.instanceMethod ({ cls := "StrangeKnivesModel", name := "hours", desc := "(I)I" } : Jvm.MethodName)) ∈ lw_all := lw_g (lw_at lw_m9 143 rfl) rfl
theorem q2167 : (Jvm.Cond.selects "StrangeKnivesModel" ({ cls := "StrangeKnivesModel", name := "hours", desc := "(I)I" } : Jvm.MethodName) ({ cls := "StrangeKnivesModel", name := "hours", desc := "(I)I" } : Jvm.MethodName)) ∈ lw_all := lw_g (lw_at lw_m9 144 rfl) rfl
theorem q2168 : (Jvm.Cond.code ({ cls := "StrangeKnivesModel", name := "hours", desc := "(I)I" } : Jvm.MethodName) prog_21_method_72_code (2 : Nat) (Option.some Jvm.ClassFile.FieldType.int)) ∈ lw_all := lw_g (lw_at lw_m9 145 rfl) rfl
theorem q2169 : (Jvm.Cond.constantLong "StrangeKnivesModel" (427 : Nat) (99 : Int64)) ∈ lw_all := lw_g (lw_at lw_m9 146 rfl) rfl
theorem q2171 : (Jvm.Cond.instanceMethod ({ cls := "StrangeKnivesModel", name := "undo", desc := "()I" } : Jvm.MethodName)) ∈ lw_all := lw_g (lw_at lw_m9 148 rfl) rfl
theorem q2172 : (Jvm.Cond.selects "StrangeKnivesModel" ({ cls := "StrangeKnivesModel", name := "undo", desc := "()I" } : Jvm.MethodName) ({ cls := "StrangeKnivesModel", name := "undo", desc := "()I" } : Jvm.MethodName)) ∈ lw_all := lw_g (lw_at lw_m9 149 rfl) rfl
theorem q2173 : (Jvm.Cond.code ({ cls := "StrangeKnivesModel", name := "undo", desc := "()I" } : Jvm.MethodName) prog_21_method_73_code (1 : Nat) (Option.some Jvm.ClassFile.FieldType.int)) ∈ lw_all := lw_g (lw_at lw_m9 150 rfl) rfl
theorem q2174 : (Jvm.Cond.methodLink "StrangeKnivesModel" (429 : Nat) ({ cls := "StrangeKnivesModel", name := "unpack", desc := "([II)V" } : Jvm.MethodName)) ∈ lw_all := lw_g (lw_at lw_m9 151 rfl) rfl
theorem q2175 : (Jvm.Cond.privateMethod ({ cls := "StrangeKnivesModel", name := "unpack", desc := "([II)V" } : Jvm.MethodName)) ∈ lw_tbl := lw_at lw_m9 152 rfl
theorem q2176 : (Jvm.Cond.instanceMethod ({ cls := "StrangeKnivesModel", name := "unpack", desc := "([II)V" } : Jvm.MethodName)) ∈ lw_all := lw_g (lw_at lw_m9 153 rfl) rfl
theorem q2177 : (Jvm.Cond.code ({ cls := "StrangeKnivesModel", name := "unpack", desc := "([II)V" } : Jvm.MethodName) prog_21_method_40_code (5 : Nat) (Option.none : Option Jvm.ClassFile.FieldType)) ∈ lw_all := lw_g (lw_at lw_m9 154 rfl) rfl
theorem q2179 : (Jvm.Cond.instanceMethod ({ cls := "StrangeKnivesModel", name := "noon", desc := "()I" } : Jvm.MethodName)) ∈ lw_all := lw_g (lw_at lw_m9 156 rfl) rfl
theorem q2180 : (Jvm.Cond.selects "StrangeKnivesModel" ({ cls := "StrangeKnivesModel", name := "noon", desc := "()I" } : Jvm.MethodName) ({ cls := "StrangeKnivesModel", name := "noon", desc := "()I" } : Jvm.MethodName)) ∈ lw_all := lw_g (lw_at lw_m9 157 rfl) rfl
theorem q2181 : (Jvm.Cond.code ({ cls := "StrangeKnivesModel", name := "noon", desc := "()I" } : Jvm.MethodName) prog_21_method_78_code (3 : Nat) (Option.some Jvm.ClassFile.FieldType.int)) ∈ lw_all := lw_g (lw_at lw_m9 158 rfl) rfl
theorem q2182 : (Jvm.Cond.methodLink "StrangeKnivesModel" (447 : Nat) ({ cls := "StrangeKnivesModel", name := "rowOn", desc := "(II)V" } : Jvm.MethodName)) ∈ lw_all := lw_g (lw_at lw_m9 159 rfl) rfl
theorem q2183 : (Jvm.Cond.privateMethod ({ cls := "StrangeKnivesModel", name := "rowOn", desc := "(II)V" } : Jvm.MethodName)) ∈ lw_tbl := lw_at lw_m9 160 rfl
theorem q2184 : (Jvm.Cond.instanceMethod ({ cls := "StrangeKnivesModel", name := "rowOn", desc := "(II)V" } : Jvm.MethodName)) ∈ lw_all := lw_g (lw_at lw_m9 161 rfl) rfl
theorem q2185 : (Jvm.Cond.code ({ cls := "StrangeKnivesModel", name := "rowOn", desc := "(II)V" } : Jvm.MethodName) prog_21_method_77_code (4 : Nat) (Option.none : Option Jvm.ClassFile.FieldType)) ∈ lw_all := lw_g (lw_at lw_m9 162 rfl) rfl
theorem q2186 : (Jvm.Cond.methodLink "StrangeKnivesModel" (364 : Nat) ({ cls := "StrangeKnivesModel", name := "canCut", desc := "(II)Z" } : Jvm.MethodName)) ∈ lw_all := lw_g (lw_at lw_m9 163 rfl) rfl
theorem q2187 : (Jvm.Cond.privateMethod ({ cls := "StrangeKnivesModel", name := "canCut", desc := "(II)Z" } : Jvm.MethodName)) ∈ lw_tbl := lw_at lw_m9 164 rfl
theorem q2188 : (Jvm.Cond.instanceMethod ({ cls := "StrangeKnivesModel", name := "canCut", desc := "(II)Z" } : Jvm.MethodName)) ∈ lw_all := lw_g (lw_at lw_m9 165 rfl) rfl
theorem q2189 : (Jvm.Cond.code ({ cls := "StrangeKnivesModel", name := "canCut", desc := "(II)Z" } : Jvm.MethodName) prog_21_method_50_code (4 : Nat) (Option.some Jvm.ClassFile.FieldType.boolean)) ∈ lw_all := lw_g (lw_at lw_m9 166 rfl) rfl
theorem q2190 : (Jvm.Cond.methodLink "StrangeKnivesModel" (450 : Nat) ({ cls := "StrangeKnivesModel", name := "isInTime", desc := "(II)Z" } : Jvm.MethodName)) ∈ lw_all := lw_g (lw_at lw_m9 167 rfl) rfl
theorem q2191 : (Jvm.Cond.privateMethod ({ cls := "StrangeKnivesModel", name := "isInTime", desc := "(II)Z" } : Jvm.MethodName)) ∈ lw_tbl := lw_at lw_m9 168 rfl
theorem q2192 : (Jvm.Cond.instanceMethod ({ cls := "StrangeKnivesModel", name := "isInTime", desc := "(II)Z" } : Jvm.MethodName)) ∈ lw_all := lw_g (lw_at lw_m9 169 rfl) rfl
theorem q2193 : (Jvm.Cond.code ({ cls := "StrangeKnivesModel", name := "isInTime", desc := "(II)Z" } : Jvm.MethodName) prog_21_method_76_code (7 : Nat) (Option.some Jvm.ClassFile.FieldType.boolean)) ∈ lw_all := lw_g (lw_at lw_m9 170 rfl) rfl
theorem q2194 : (Jvm.Cond.methodLink "StrangeKnivesModel" (435 : Nat) ({ cls := "StrangeKnivesModel", name := "until", desc := "(I)I" } : Jvm.MethodName)) ∈ lw_all := lw_g (lw_at lw_m9 171 rfl) rfl
theorem q2195 : (Jvm.Cond.privateMethod ({ cls := "StrangeKnivesModel", name := "until", desc := "(I)I" } : Jvm.MethodName)) ∈ lw_tbl := lw_at lw_m9 172 rfl
theorem q2196 : (Jvm.Cond.instanceMethod ({ cls := "StrangeKnivesModel", name := "until", desc := "(I)I" } : Jvm.MethodName)) ∈ lw_all := lw_g (lw_at lw_m9 173 rfl) rfl
theorem q2197 : (Jvm.Cond.code ({ cls := "StrangeKnivesModel", name := "until", desc := "(I)I" } : Jvm.MethodName) prog_21_method_75_code (2 : Nat) (Option.some Jvm.ClassFile.FieldType.int)) ∈ lw_all := lw_g (lw_at lw_m9 174 rfl) rfl
theorem q2198 : (Jvm.Cond.methodLink "StrangeKnivesModel" (438 : Nat) ({ cls := "StrangeKnivesModel", name := "from", desc := "(II)I" } : Jvm.MethodName)) ∈ lw_all := lw_g (lw_at lw_m9 175 rfl) rfl
theorem q2199 : (Jvm.Cond.privateMethod ({ cls := "StrangeKnivesModel", name := "from", desc := "(II)I" } : Jvm.MethodName)) ∈ lw_tbl := lw_at lw_m9 176 rfl
theorem q2200 : (Jvm.Cond.instanceMethod ({ cls := "StrangeKnivesModel", name := "from", desc := "(II)I" } : Jvm.MethodName)) ∈ lw_all := lw_g (lw_at lw_m9 177 rfl) rfl
theorem q2201 : (Jvm.Cond.code ({ cls := "StrangeKnivesModel", name := "from", desc := "(II)I" } : Jvm.MethodName) prog_21_method_74_code (3 : Nat) (Option.some Jvm.ClassFile.FieldType.int)) ∈ lw_all := lw_g (lw_at lw_m9 178 rfl) rfl
theorem q2202 : (Jvm.Cond.methodLink "StrangeKnivesModel" (432 : Nat) ({ cls := "java/lang/Math", name := "abs", desc := "(I)I" } : Jvm.MethodName)) ∈ lw_all := lw_g (lw_at lw_m9 179 rfl) rfl
theorem q2204 : (Jvm.Cond.instanceMethod ({ cls := "StrangeKnivesModel", name := "carried", desc := "(I)I" } : Jvm.MethodName)) ∈ lw_all := lw_g (lw_at lw_m9 181 rfl) rfl
theorem q2205 : (Jvm.Cond.selects "StrangeKnivesModel" ({ cls := "StrangeKnivesModel", name := "carried", desc := "(I)I" } : Jvm.MethodName) ({ cls := "StrangeKnivesModel", name := "carried", desc := "(I)I" } : Jvm.MethodName)) ∈ lw_all := lw_g (lw_at lw_m9 182 rfl) rfl
theorem q2206 : (Jvm.Cond.code ({ cls := "StrangeKnivesModel", name := "carried", desc := "(I)I" } : Jvm.MethodName) prog_21_method_79_code (2 : Nat) (Option.some Jvm.ClassFile.FieldType.int)) ∈ lw_all := lw_g (lw_at lw_m9 183 rfl) rfl
theorem q2208 : (Jvm.Cond.instanceMethod ({ cls := "StrangeKnivesModel", name := "familiar", desc := "()I" } : Jvm.MethodName)) ∈ lw_all := lw_g (lw_at lw_m9 185 rfl) rfl
theorem q2209 : (Jvm.Cond.selects "StrangeKnivesModel" ({ cls := "StrangeKnivesModel", name := "familiar", desc := "()I" } : Jvm.MethodName) ({ cls := "StrangeKnivesModel", name := "familiar", desc := "()I" } : Jvm.MethodName)) ∈ lw_all := lw_g (lw_at lw_m9 186 rfl) rfl
theorem q2210 : (Jvm.Cond.code ({ cls := "StrangeKnivesModel", name := "familiar", desc := "()I" } : Jvm.MethodName) prog_21_method_80_code (5 : Nat) (Option.some Jvm.ClassFile.FieldType.int)) ∈ lw_all := lw_g (lw_at lw_m9 187 rfl) rfl
theorem q2212 : (Jvm.Cond.instanceMethod ({ cls := "StrangeKnivesModel", name := "ring", desc := "()I" } : Jvm.MethodName)) ∈ lw_all := lw_g (lw_at lw_m9 189 rfl) rfl
theorem q2213 : (Jvm.Cond.selects "StrangeKnivesModel" ({ cls := "StrangeKnivesModel", name := "ring", desc := "()I" } : Jvm.MethodName) ({ cls := "StrangeKnivesModel", name := "ring", desc := "()I" } : Jvm.MethodName)) ∈ lw_all := lw_g (lw_at lw_m9 190 rfl) rfl
theorem q2214 : (Jvm.Cond.code ({ cls := "StrangeKnivesModel", name := "ring", desc := "()I" } : Jvm.MethodName) prog_21_method_82_code (3 : Nat) (Option.some Jvm.ClassFile.FieldType.int)) ∈ lw_all := lw_g (lw_at lw_m9 191 rfl) rfl
theorem q2215 : (Jvm.Cond.methodLink "StrangeKnivesModel" (453 : Nat) ({ cls := "StrangeKnivesModel", name := "areStrangers", desc := "(I)Z" } : Jvm.MethodName)) ∈ lw_all := lw_g (lw_at lw_m9 192 rfl) rfl
theorem q2216 : (Jvm.Cond.privateMethod ({ cls := "StrangeKnivesModel", name := "areStrangers", desc := "(I)Z" } : Jvm.MethodName)) ∈ lw_tbl := lw_at lw_m9 193 rfl
theorem q2217 : (Jvm.Cond.instanceMethod ({ cls := "StrangeKnivesModel", name := "areStrangers", desc := "(I)Z" } : Jvm.MethodName)) ∈ lw_all := lw_g (lw_at lw_m9 194 rfl) rfl
theorem q2218 : (Jvm.Cond.code ({ cls := "StrangeKnivesModel", name := "areStrangers", desc := "(I)Z" } : Jvm.MethodName) prog_21_method_81_code (4 : Nat) (Option.some Jvm.ClassFile.FieldType.boolean)) ∈ lw_all := lw_g (lw_at lw_m9 195 rfl) rfl
theorem q2220 : (Jvm.Cond.instanceMethod ({ cls := "StrangeKnivesModel", name := "safe", desc := "()I" } : Jvm.MethodName)) ∈ lw_all := lw_g (lw_at lw_m9 197 rfl) rfl
theorem q2221 : (Jvm.Cond.selects "StrangeKnivesModel" ({ cls := "StrangeKnivesModel", name := "safe", desc := "()I" } : Jvm.MethodName) ({ cls := "StrangeKnivesModel", name := "safe", desc := "()I" } : Jvm.MethodName)) ∈ lw_all := lw_g (lw_at lw_m9 198 rfl) rfl
theorem q2222 : (Jvm.Cond.code ({ cls := "StrangeKnivesModel", name := "safe", desc := "()I" } : Jvm.MethodName) prog_21_method_84_code (4 : Nat) (Option.some Jvm.ClassFile.FieldType.int)) ∈ lw_all := lw_g (lw_at lw_m9 199 rfl) rfl
theorem q2223 : (Jvm.Cond.methodLink "StrangeKnivesModel" (459 : Nat) ({ cls := "StrangeKnivesModel", name := "cuttable", desc := "(Z)I" } : Jvm.MethodName)) ∈ lw_all := lw_g (lw_at lw_m9 200 rfl) rfl
theorem q2224 : (Jvm.Cond.privateMethod ({ cls := "StrangeKnivesModel", name := "cuttable", desc := "(Z)I" } : Jvm.MethodName)) ∈ lw_tbl := lw_at lw_m9 201 rfl
theorem q2225 : (Jvm.Cond.instanceMethod ({ cls := "StrangeKnivesModel", name := "cuttable", desc := "(Z)I" } : Jvm.MethodName)) ∈ lw_all := lw_g (lw_at lw_m9 202 rfl) rfl
theorem q2226 : (Jvm.Cond.code ({ cls := "StrangeKnivesModel", name := "cuttable", desc := "(Z)I" } : Jvm.MethodName) prog_21_method_83_code (4 : Nat) (Option.some Jvm.ClassFile.FieldType.int)) ∈ lw_all := lw_g (lw_at lw_m9 203 rfl) rfl
theorem q2227 : (Jvm.Cond.methodLink "StrangeKnivesModel" (456 : Nat) ({ cls := "StrangeKnivesModel", name := "cutters", desc := "(I)I" } : Jvm.MethodName)) ∈ lw_all := lw_g (lw_at lw_m9 204 rfl) rfl
theorem q2228 : (Jvm.Cond.privateMethod ({ cls := "StrangeKnivesModel", name := "cutters", desc := "(I)I" } : Jvm.MethodName)) ∈ lw_tbl := lw_at lw_m9 205 rfl
theorem q2229 : (Jvm.Cond.instanceMethod ({ cls := "StrangeKnivesModel", name := "cutters", desc := "(I)I" } : Jvm.MethodName)) ∈ lw_all := lw_g (lw_at lw_m9 206 rfl) rfl
theorem q2230 : (Jvm.Cond.code ({ cls := "StrangeKnivesModel", name := "cutters", desc := "(I)I" } : Jvm.MethodName) prog_21_method_51_code (4 : Nat) (Option.some Jvm.ClassFile.FieldType.int)) ∈ lw_all := lw_g (lw_at lw_m9 207 rfl) rfl
theorem q2232 : (Jvm.Cond.instanceMethod ({ cls := "StrangeKnivesModel", name := "help", desc := "()I" } : Jvm.MethodName)) ∈ lw_all := lw_g (lw_at lw_m9 209 rfl) rfl
theorem q2233 : (Jvm.Cond.selects "StrangeKnivesModel" ({ cls := "StrangeKnivesModel", name := "help", desc := "()I" } : Jvm.MethodName) ({ cls := "StrangeKnivesModel", name := "help", desc := "()I" } : Jvm.MethodName)) ∈ lw_all := lw_g (lw_at lw_m9 210 rfl) rfl
theorem q2234 : (Jvm.Cond.code ({ cls := "StrangeKnivesModel", name := "help", desc := "()I" } : Jvm.MethodName) prog_21_method_86_code (3 : Nat) (Option.some Jvm.ClassFile.FieldType.int)) ∈ lw_all := lw_g (lw_at lw_m9 211 rfl) rfl
theorem q2235 : (Jvm.Cond.methodLink "StrangeKnivesModel" (466 : Nat) ({ cls := "StrangeKnivesModel", name := "isHelped", desc := "(I)Z" } : Jvm.MethodName)) ∈ lw_all := lw_g (lw_at lw_m9 212 rfl) rfl
theorem q2236 : (Jvm.Cond.privateMethod ({ cls := "StrangeKnivesModel", name := "isHelped", desc := "(I)Z" } : Jvm.MethodName)) ∈ lw_tbl := lw_at lw_m9 213 rfl
theorem q2237 : (Jvm.Cond.instanceMethod ({ cls := "StrangeKnivesModel", name := "isHelped", desc := "(I)Z" } : Jvm.MethodName)) ∈ lw_all := lw_g (lw_at lw_m9 214 rfl) rfl
theorem q2238 : (Jvm.Cond.code ({ cls := "StrangeKnivesModel", name := "isHelped", desc := "(I)Z" } : Jvm.MethodName) prog_21_method_85_code (3 : Nat) (Option.some Jvm.ClassFile.FieldType.boolean)) ∈ lw_all := lw_g (lw_at lw_m9 215 rfl) rfl
theorem q2240 : (Jvm.Cond.instanceMethod ({ cls := "StrangeKnivesModel", name := "doors", desc := "()I" } : Jvm.MethodName)) ∈ lw_all := lw_g (lw_at lw_m9 217 rfl) rfl
theorem q2241 : (Jvm.Cond.selects "StrangeKnivesModel" ({ cls := "StrangeKnivesModel", name := "doors", desc := "()I" } : Jvm.MethodName) ({ cls := "StrangeKnivesModel", name := "doors", desc := "()I" } : Jvm.MethodName)) ∈ lw_all := lw_g (lw_at lw_m9 218 rfl) rfl
theorem q2242 : (Jvm.Cond.code ({ cls := "StrangeKnivesModel", name := "doors", desc := "()I" } : Jvm.MethodName) prog_21_method_88_code (5 : Nat) (Option.some Jvm.ClassFile.FieldType.int)) ∈ lw_all := lw_g (lw_at lw_m9 219 rfl) rfl
theorem q2243 : (Jvm.Cond.methodLink "StrangeKnivesModel" (469 : Nat) ({ cls := "StrangeKnivesModel", name := "peopleIn", desc := "(I)I" } : Jvm.MethodName)) ∈ lw_all := lw_g (lw_at lw_m9 220 rfl) rfl
theorem q2244 : (Jvm.Cond.privateMethod ({ cls := "StrangeKnivesModel", name := "peopleIn", desc := "(I)I" } : Jvm.MethodName)) ∈ lw_tbl := lw_at lw_m9 221 rfl
theorem q2245 : (Jvm.Cond.instanceMethod ({ cls := "StrangeKnivesModel", name := "peopleIn", desc := "(I)I" } : Jvm.MethodName)) ∈ lw_all := lw_g (lw_at lw_m9 222 rfl) rfl
theorem q2246 : (Jvm.Cond.code ({ cls := "StrangeKnivesModel", name := "peopleIn", desc := "(I)I" } : Jvm.MethodName) prog_21_method_87_code (4 : Nat) (Option.some Jvm.ClassFile.FieldType.int)) ∈ lw_all := lw_g (lw_at lw_m9 223 rfl) rfl
theorem q2248 : (Jvm.Cond.instanceMethod ({ cls := "StrangeKnivesModel", name := "see", desc := "(III)I" } : Jvm.MethodName)) ∈ lw_all := lw_g (lw_at lw_m9 225 rfl) rfl
theorem q2249 : (Jvm.Cond.selects "StrangeKnivesModel" ({ cls := "StrangeKnivesModel", name := "see", desc := "(III)I" } : Jvm.MethodName) ({ cls := "StrangeKnivesModel", name := "see", desc := "(III)I" } : Jvm.MethodName)) ∈ lw_all := lw_g (lw_at lw_m9 226 rfl) rfl
theorem q2250 : (Jvm.Cond.code ({ cls := "StrangeKnivesModel", name := "see", desc := "(III)I" } : Jvm.MethodName) prog_21_method_89_code (4 : Nat) (Option.some Jvm.ClassFile.FieldType.int)) ∈ lw_all := lw_g (lw_at lw_m9 227 rfl) rfl
theorem q2251 : (Jvm.Cond.constantLong "StrangeKnivesModel" (472 : Nat) (999 : Int64)) ∈ lw_all := lw_g (lw_at lw_m9 228 rfl) rfl
theorem q2253 : (Jvm.Cond.instanceMethod ({ cls := "StrangeKnivesModel", name := "who", desc := "(I)I" } : Jvm.MethodName)) ∈ lw_all := lw_g (lw_at lw_m9 230 rfl) rfl
theorem q2254 : (Jvm.Cond.selects "StrangeKnivesModel" ({ cls := "StrangeKnivesModel", name := "who", desc := "(I)I" } : Jvm.MethodName) ({ cls := "StrangeKnivesModel", name := "who", desc := "(I)I" } : Jvm.MethodName)) ∈ lw_all := lw_g (lw_at lw_m9 231 rfl) rfl
theorem q2255 : (Jvm.Cond.code ({ cls := "StrangeKnivesModel", name := "who", desc := "(I)I" } : Jvm.MethodName) prog_21_method_90_code (6 : Nat) (Option.some Jvm.ClassFile.FieldType.int)) ∈ lw_all := lw_g (lw_at lw_m9 232 rfl) rfl
theorem q2257 : (Jvm.Cond.instanceMethod ({ cls := "StrangeKnivesModel", name := "balk", desc := "(II)I" } : Jvm.MethodName)) ∈ lw_all := lw_g (lw_at lw_m9 234 rfl) rfl
theorem q2258 : (Jvm.Cond.selects "StrangeKnivesModel" ({ cls := "StrangeKnivesModel", name := "balk", desc := "(II)I" } : Jvm.MethodName) ({ cls := "StrangeKnivesModel", name := "balk", desc := "(II)I" } : Jvm.MethodName)) ∈ lw_all := lw_g (lw_at lw_m9 235 rfl) rfl
theorem q2259 : (Jvm.Cond.code ({ cls := "StrangeKnivesModel", name := "balk", desc := "(II)I" } : Jvm.MethodName) prog_21_method_91_code (3 : Nat) (Option.some Jvm.ClassFile.FieldType.int)) ∈ lw_all := lw_g (lw_at lw_m9 236 rfl) rfl
theorem q2261 : (Jvm.Cond.instanceMethod ({ cls := "StrangeKnivesModel", name := "whom", desc := "(I)I" } : Jvm.MethodName)) ∈ lw_all := lw_g (lw_at lw_m9 238 rfl) rfl
theorem q2262 : (Jvm.Cond.selects "StrangeKnivesModel" ({ cls := "StrangeKnivesModel", name := "whom", desc := "(I)I" } : Jvm.MethodName) ({ cls := "StrangeKnivesModel", name := "whom", desc := "(I)I" } : Jvm.MethodName)) ∈ lw_all := lw_g (lw_at lw_m9 239 rfl) rfl
theorem q2263 : (Jvm.Cond.code ({ cls := "StrangeKnivesModel", name := "whom", desc := "(I)I" } : Jvm.MethodName) prog_21_method_93_code (8 : Nat) (Option.some Jvm.ClassFile.FieldType.int)) ∈ lw_all := lw_g (lw_at lw_m10 0 rfl) rfl
theorem q2264 : (Jvm.Cond.methodLink "StrangeKnivesModel" (474 : Nat) ({ cls := "StrangeKnivesModel", name := "isBalked", desc := "()Z" } : Jvm.MethodName)) ∈ lw_all := lw_g (lw_at lw_m10 1 rfl) rfl
theorem q2265 : (Jvm.Cond.privateMethod ({ cls := "StrangeKnivesModel", name := "isBalked", desc := "()Z" } : Jvm.MethodName)) ∈ lw_tbl := lw_at lw_m10 2 rfl
theorem q2266 : (Jvm.Cond.instanceMethod ({ cls := "StrangeKnivesModel", name := "isBalked", desc := "()Z" } : Jvm.MethodName)) ∈ lw_all := lw_g (lw_at lw_m10 3 rfl) rfl
theorem q2267 : (Jvm.Cond.code ({ cls := "StrangeKnivesModel", name := "isBalked", desc := "()Z" } : Jvm.MethodName) prog_21_method_92_code (2 : Nat) (Option.some Jvm.ClassFile.FieldType.boolean)) ∈ lw_all := lw_g (lw_at lw_m10 4 rfl) rfl
theorem q2269 : (Jvm.Cond.instanceMethod ({ cls := "StrangeKnivesModel", name := "why", desc := "(II)I" } : Jvm.MethodName)) ∈ lw_all := lw_g (lw_at lw_m10 6 rfl) rfl
theorem q2270 : (Jvm.Cond.selects "StrangeKnivesModel" ({ cls := "StrangeKnivesModel", name := "why", desc := "(II)I" } : Jvm.MethodName) ({ cls := "StrangeKnivesModel", name := "why", desc := "(II)I" } : Jvm.MethodName)) ∈ lw_all := lw_g (lw_at lw_m10 7 rfl) rfl
theorem q2271 : (Jvm.Cond.code ({ cls := "StrangeKnivesModel", name := "why", desc := "(II)I" } : Jvm.MethodName) prog_21_method_94_code (3 : Nat) (Option.some Jvm.ClassFile.FieldType.int)) ∈ lw_all := lw_g (lw_at lw_m10 8 rfl) rfl
theorem q2272 : (Jvm.Cond.constantLong "StrangeKnivesModel" (478 : Nat) (6 : Int64)) ∈ lw_all := lw_g (lw_at lw_m10 9 rfl) rfl
theorem q2274 : (Jvm.Cond.instanceMethod ({ cls := "StrangeKnivesModel", name := "fairest", desc := "(II)I" } : Jvm.MethodName)) ∈ lw_all := lw_g (lw_at lw_m10 11 rfl) rfl
theorem q2275 : (Jvm.Cond.selects "StrangeKnivesModel" ({ cls := "StrangeKnivesModel", name := "fairest", desc := "(II)I" } : Jvm.MethodName) ({ cls := "StrangeKnivesModel", name := "fairest", desc := "(II)I" } : Jvm.MethodName)) ∈ lw_all := lw_g (lw_at lw_m10 12 rfl) rfl
theorem q2276 : (Jvm.Cond.code ({ cls := "StrangeKnivesModel", name := "fairest", desc := "(II)I" } : Jvm.MethodName) prog_21_method_96_code (7 : Nat) (Option.some Jvm.ClassFile.FieldType.int)) ∈ lw_all := lw_g (lw_at lw_m10 13 rfl) rfl
theorem q2277 : (Jvm.Cond.methodLink "StrangeKnivesModel" (480 : Nat) ({ cls := "StrangeKnivesModel", name := "goodFor", desc := "(III)I" } : Jvm.MethodName)) ∈ lw_all := lw_g (lw_at lw_m10 14 rfl) rfl
theorem q2278 : (Jvm.Cond.privateMethod ({ cls := "StrangeKnivesModel", name := "goodFor", desc := "(III)I" } : Jvm.MethodName)) ∈ lw_tbl := lw_at lw_m10 15 rfl
theorem q2279 : (Jvm.Cond.instanceMethod ({ cls := "StrangeKnivesModel", name := "goodFor", desc := "(III)I" } : Jvm.MethodName)) ∈ lw_all := lw_g (lw_at lw_m10 16 rfl) rfl
theorem q2280 : (Jvm.Cond.code ({ cls := "StrangeKnivesModel", name := "goodFor", desc := "(III)I" } : Jvm.MethodName) prog_21_method_95_code (7 : Nat) (Option.some Jvm.ClassFile.FieldType.int)) ∈ lw_all := lw_g (lw_at lw_m10 17 rfl) rfl
theorem q2282 : (Jvm.Cond.instanceMethod ({ cls := "StrangeKnivesModel", name := "forget", desc := "()V" } : Jvm.MethodName)) ∈ lw_all := lw_g (lw_at lw_m10 19 rfl) rfl
theorem q2283 : (Jvm.Cond.selects "StrangeKnivesModel" ({ cls := "StrangeKnivesModel", name := "forget", desc := "()V" } : Jvm.MethodName) ({ cls := "StrangeKnivesModel", name := "forget", desc := "()V" } : Jvm.MethodName)) ∈ lw_all := lw_g (lw_at lw_m10 20 rfl) rfl
theorem q2284 : (Jvm.Cond.code ({ cls := "StrangeKnivesModel", name := "forget", desc := "()V" } : Jvm.MethodName) prog_21_method_97_code (1 : Nat) (Option.none : Option Jvm.ClassFile.FieldType)) ∈ lw_all := lw_g (lw_at lw_m10 21 rfl) rfl
theorem q2286 : (Jvm.Cond.instanceMethod ({ cls := "StrangeKnivesModel", name := "game", desc := "(III)I" } : Jvm.MethodName)) ∈ lw_all := lw_g (lw_at lw_m10 23 rfl) rfl
theorem q2287 : (Jvm.Cond.selects "StrangeKnivesModel" ({ cls := "StrangeKnivesModel", name := "game", desc := "(III)I" } : Jvm.MethodName) ({ cls := "StrangeKnivesModel", name := "game", desc := "(III)I" } : Jvm.MethodName)) ∈ lw_all := lw_g (lw_at lw_m10 24 rfl) rfl
theorem q2288 : (Jvm.Cond.code ({ cls := "StrangeKnivesModel", name := "game", desc := "(III)I" } : Jvm.MethodName) prog_21_method_99_code (10 : Nat) (Option.some Jvm.ClassFile.FieldType.int)) ∈ lw_all := lw_g (lw_at lw_m10 25 rfl) rfl
theorem q2289 : (Jvm.Cond.methodLink "StrangeKnivesModel" (483 : Nat) ({ cls := "StrangeKnivesModel", name := "gain", desc := "(III)I" } : Jvm.MethodName)) ∈ lw_all := lw_g (lw_at lw_m10 26 rfl) rfl
theorem q2290 : (Jvm.Cond.privateMethod ({ cls := "StrangeKnivesModel", name := "gain", desc := "(III)I" } : Jvm.MethodName)) ∈ lw_tbl := lw_at lw_m10 27 rfl
theorem q2291 : (Jvm.Cond.instanceMethod ({ cls := "StrangeKnivesModel", name := "gain", desc := "(III)I" } : Jvm.MethodName)) ∈ lw_all := lw_g (lw_at lw_m10 28 rfl) rfl
theorem q2292 : (Jvm.Cond.code ({ cls := "StrangeKnivesModel", name := "gain", desc := "(III)I" } : Jvm.MethodName) prog_21_method_98_code (4 : Nat) (Option.some Jvm.ClassFile.FieldType.int)) ∈ lw_all := lw_g (lw_at lw_m10 29 rfl) rfl
theorem q2294 : (Jvm.Cond.instanceMethod ({ cls := "StrangeKnivesModel", name := "season", desc := "(III)I" } : Jvm.MethodName)) ∈ lw_all := lw_g (lw_at lw_m10 31 rfl) rfl
theorem q2295 : (Jvm.Cond.selects "StrangeKnivesModel" ({ cls := "StrangeKnivesModel", name := "season", desc := "(III)I" } : Jvm.MethodName) ({ cls := "StrangeKnivesModel", name := "season", desc := "(III)I" } : Jvm.MethodName)) ∈ lw_all := lw_g (lw_at lw_m10 32 rfl) rfl
theorem q2296 : (Jvm.Cond.code ({ cls := "StrangeKnivesModel", name := "season", desc := "(III)I" } : Jvm.MethodName) prog_21_method_101_code (10 : Nat) (Option.some Jvm.ClassFile.FieldType.int)) ∈ lw_all := lw_g (lw_at lw_m10 33 rfl) rfl
theorem q2297 : (Jvm.Cond.constantLong "StrangeKnivesModel" (490 : Nat) (2 : Int64)) ∈ lw_all := lw_g (lw_at lw_m10 34 rfl) rfl
theorem q2298 : (Jvm.Cond.constantLong "StrangeKnivesModel" (492 : Nat) (60 : Int64)) ∈ lw_all := lw_g (lw_at lw_m10 35 rfl) rfl
theorem q2299 : (Jvm.Cond.methodLink "StrangeKnivesModel" (494 : Nat) ({ cls := "StrangeKnivesModel", name := "drawOf", desc := "(I)I" } : Jvm.MethodName)) ∈ lw_all := lw_g (lw_at lw_m10 36 rfl) rfl
theorem q2300 : (Jvm.Cond.privateMethod ({ cls := "StrangeKnivesModel", name := "drawOf", desc := "(I)I" } : Jvm.MethodName)) ∈ lw_tbl := lw_at lw_m10 37 rfl
theorem q2301 : (Jvm.Cond.instanceMethod ({ cls := "StrangeKnivesModel", name := "drawOf", desc := "(I)I" } : Jvm.MethodName)) ∈ lw_all := lw_g (lw_at lw_m10 38 rfl) rfl
theorem q2302 : (Jvm.Cond.code ({ cls := "StrangeKnivesModel", name := "drawOf", desc := "(I)I" } : Jvm.MethodName) prog_21_method_100_code (2 : Nat) (Option.some Jvm.ClassFile.FieldType.int)) ∈ lw_all := lw_g (lw_at lw_m10 39 rfl) rfl
theorem q2303 : (Jvm.Cond.constant "StrangeKnivesModel" (489 : Nat) (1103515245 : Int32)) ∈ lw_all := lw_g (lw_at lw_m10 40 rfl) rfl
theorem q2305 : (Jvm.Cond.instanceMethod ({ cls := "StrangeKnivesModel", name := "image", desc := "()V" } : Jvm.MethodName)) ∈ lw_all := lw_g (lw_at lw_m10 42 rfl) rfl
theorem q2306 : (Jvm.Cond.selects "StrangeKnivesModel" ({ cls := "StrangeKnivesModel", name := "image", desc := "()V" } : Jvm.MethodName) ({ cls := "StrangeKnivesModel", name := "image", desc := "()V" } : Jvm.MethodName)) ∈ lw_all := lw_g (lw_at lw_m10 43 rfl) rfl
theorem q2307 : (Jvm.Cond.code ({ cls := "StrangeKnivesModel", name := "image", desc := "()V" } : Jvm.MethodName) prog_21_method_103_code (1 : Nat) (Option.none : Option Jvm.ClassFile.FieldType)) ∈ lw_all := lw_g (lw_at lw_m10 44 rfl) rfl
theorem q2308 : (Jvm.Cond.methodLink "StrangeKnivesModel" (506 : Nat) ({ cls := "StrangeKnivesModel", name := "be", desc := "([I[I)V" } : Jvm.MethodName)) ∈ lw_all := lw_g (lw_at lw_m10 45 rfl) rfl
theorem q2309 : (Jvm.Cond.static ({ cls := "StrangeKnivesModel", name := "be", desc := "([I[I)V" } : Jvm.MethodName)) ∈ lw_all := lw_g (lw_at lw_m10 46 rfl) rfl
theorem q2310 : (Jvm.Cond.code ({ cls := "StrangeKnivesModel", name := "be", desc := "([I[I)V" } : Jvm.MethodName) prog_21_method_102_code (3 : Nat) (Option.none : Option Jvm.ClassFile.FieldType)) ∈ lw_all := lw_g (lw_at lw_m10 47 rfl) rfl
theorem q2312 : (Jvm.Cond.instanceMethod ({ cls := "StrangeKnivesModel", name := "restore", desc := "()Z" } : Jvm.MethodName)) ∈ lw_all := lw_g (lw_at lw_m10 49 rfl) rfl
theorem q2313 : (Jvm.Cond.selects "StrangeKnivesModel" ({ cls := "StrangeKnivesModel", name := "restore", desc := "()Z" } : Jvm.MethodName) ({ cls := "StrangeKnivesModel", name := "restore", desc := "()Z" } : Jvm.MethodName)) ∈ lw_all := lw_g (lw_at lw_m10 50 rfl) rfl
theorem q2314 : (Jvm.Cond.code ({ cls := "StrangeKnivesModel", name := "restore", desc := "()Z" } : Jvm.MethodName) prog_21_method_104_code (1 : Nat) (Option.some Jvm.ClassFile.FieldType.boolean)) ∈ lw_all := lw_g (lw_at lw_m10 51 rfl) rfl
theorem q2341 : (Jvm.Cond.castable "StrangeKnivesModel" "java/lang/Object") ∈ lw_tbl := lw_at lw_m10 78 rfl
theorem in_X7 : ∀ w ∈ wsX70, w ∈ lw_all := lw_in wsX70 [1752, 1754, 1756, 1758, 1760, 1762, 1764, 1766, 1768, 1770, 1772, 1774, 1776, 1778, 1780, 1782, 1784, 1786, 1788, 1790, 1792, 1794, 1796, 1798, 1800, 1802, 1804, 1806, 1808, 1810, 1812, 1814, 1816, 1818, 1820, 1822, 1824, 1826, 1828, 1830, 1832, 1834, 1836, 1838, 1840, 1842, 1844, 1846, 1848, 1850, 1852, 1854, 1856, 1858, 1860, 1862, 1864, 1866, 1868, 1870, 1872, 1874, 1876, 1878, 1880, 1882, 1884, 1886, 1888] (by decide +kernel) (by decide +kernel)


/-! TideKeepModel -/
set_option maxRecDepth 100000
def RX6 : String := "TideKeepModel"
def TX6 : u_T := fun k => match k with
  | 0 => ("TideKeepModel", "tape", "[B", true)
  | 1 => ("TideKeepModel", "taped", "I", false)
  | 2 => ("TideKeepModel", "length", "I", false)
  | 3 => ("TideKeepModel", "from", "I", false)
  | 4 => ("TideKeepModel", "behind", "I", false)
  | 5 => ("TideKeepModel", "hand", "I", false)
  | 6 => ("TideKeepModel", "value", "I", false)
  | 7 => ("TideKeepModel", "got", "I", false)
  | 8 => ("TideKeepModel", "fault", "I", false)
  | 9 => ("TideKeepModel", "faultAt", "I", false)
  | 10 => ("TideKeepModel", "columns", "I", false)
  | 11 => ("TideKeepModel", "rows", "I", false)
  | 12 => ("TideKeepModel", "flags", "I", false)
  | 13 => ("TideKeepModel", "beachClauses", "I", false)
  | 14 => ("TideKeepModel", "readColumns", "I", false)
  | 15 => ("TideKeepModel", "readRows", "I", false)
  | 16 => ("TideKeepModel", "readFlags", "I", false)
  | 17 => ("TideKeepModel", "read", "I", false)
  | 18 => ("TideKeepModel", "toldWords", "I", false)
  | 19 => ("TideKeepModel", "law", "[I", true)
  | 20 => ("TideKeepModel", "readLaw", "[I", true)
  | 21 => ("TideKeepModel", "heap", "[I", true)
  | 22 => ("TideKeepModel", "readHeap", "[I", true)
  | 23 => ("TideKeepModel", "flagAt", "[I", true)
  | 24 => ("TideKeepModel", "readFlagAt", "[I", true)
  | 25 => ("TideKeepModel", "isStone", "[Z", true)
  | 26 => ("TideKeepModel", "readStone", "[Z", true)
  | 27 => ("TideKeepModel", "readAny", "Z", false)
  | 28 => ("TideKeepModel", "waves", "I", false)
  | 29 => ("TideKeepModel", "seaClauses", "I", false)
  | 30 => ("TideKeepModel", "readWaves", "I", false)
  | 31 => ("TideKeepModel", "wave", "[I", true)
  | 32 => ("TideKeepModel", "readWave", "[I", true)
  | 33 => ("TideKeepModel", "tide", "[I", true)
  | 34 => ("TideKeepModel", "readTide", "[I", true)
  | 35 => ("TideKeepModel", "reach", "[I", true)
  | 36 => ("TideKeepModel", "level", "[I", true)
  | 37 => ("TideKeepModel", "readReach", "[I", true)
  | 38 => ("TideKeepModel", "readLevel", "[I", true)
  | 39 => ("TideKeepModel", "cut", "I", false)
  | 40 => ("TideKeepModel", "readCut", "I", false)
  | 41 => ("TideKeepModel", "plans", "I", false)
  | 42 => ("TideKeepModel", "readHands", "I", false)
  | 43 => ("TideKeepModel", "hands", "[I", true)
  | 44 => ("TideKeepModel", "acts", "[I", true)
  | 45 => ("TideKeepModel", "act", "[I", true)
  | 46 => ("TideKeepModel", "now", "[I", true)
  | 47 => ("TideKeepModel", "trial", "[I", true)
  | 48 => ("TideKeepModel", "kept", "[I", true)
  | 49 => ("TideKeepModel", "isKept", "[Z", true)
  | 50 => ("TideKeepModel", "heaped", "[I", true)
  | 51 => ("TideKeepModel", "tried", "I", false)
  | 52 => ("TideKeepModel", "rights", "I", false)
  | 53 => ("TideKeepModel", "telling", "I", false)
  | 54 => ("TideKeepModel", "triedWet", "[I", true)
  | 55 => ("TideKeepModel", "triedSteep", "[I", true)
  | 56 => ("TideKeepModel", "triedStood", "[I", true)
  | 57 => ("TideKeepModel", "triedAt", "[I", true)
  | 58 => ("TideKeepModel", "rightOf", "[I", true)
  | 59 => ("TideKeepModel", "rightStood", "[I", true)
  | 60 => ("TideKeepModel", "rightAt", "[I", true)
  | _ => ("TideKeepModel", "standing", "[I", true)
def tyX6 : Nat → FieldType := fun k => match k with
  | 0 => .array .byte
  | 1 => .int
  | 2 => .int
  | 3 => .int
  | 4 => .int
  | 5 => .int
  | 6 => .int
  | 7 => .int
  | 8 => .int
  | 9 => .int
  | 10 => .int
  | 11 => .int
  | 12 => .int
  | 13 => .int
  | 14 => .int
  | 15 => .int
  | 16 => .int
  | 17 => .int
  | 18 => .int
  | 19 => .array .int
  | 20 => .array .int
  | 21 => .array .int
  | 22 => .array .int
  | 23 => .array .int
  | 24 => .array .int
  | 25 => .array .boolean
  | 26 => .array .boolean
  | 27 => .boolean
  | 28 => .int
  | 29 => .int
  | 30 => .int
  | 31 => .array .int
  | 32 => .array .int
  | 33 => .array .int
  | 34 => .array .int
  | 35 => .array .int
  | 36 => .array .int
  | 37 => .array .int
  | 38 => .array .int
  | 39 => .int
  | 40 => .int
  | 41 => .int
  | 42 => .int
  | 43 => .array .int
  | 44 => .array .int
  | 45 => .array .int
  | 46 => .array .int
  | 47 => .array .int
  | 48 => .array .int
  | 49 => .array .boolean
  | 50 => .array .int
  | 51 => .int
  | 52 => .int
  | 53 => .int
  | 54 => .array .int
  | 55 => .array .int
  | 56 => .array .int
  | 57 => .array .int
  | 58 => .array .int
  | 59 => .array .int
  | 60 => .array .int
  | _ => .array .int
abbrev wsX60 : List Cond := u_ws RX6 TX6 62
set_option maxRecDepth 100000 in
theorem nmX6 : ∀ a, a < 62 → ∀ b, b < 62 → a ≠ b → (TX6 a).2.1 ≠ (TX6 b).2.1 := by decide +kernel
set_option maxRecDepth 100000 in
theorem tyX6_ok : ∀ k, k < 62 → parseFieldDescriptor (TX6 k).2.2.1 = some (tyX6 k) := by decide +kernel
abbrev cX6_init : ByteArray := prog_16_method_32_code
def yX6_init : MethodName := ⟨RX6, "<init>", "()V"⟩
def dkwX6_init_15 : List UInt8 := [17, 1, 240, 188, 10, 181, 1, 49, 42, 180, 1, 13, 17, 1, 32, 4, 79, 42, 182, 1, 52, 177]
abbrev dktX6_init_15 : List UInt8 := dkwX6_init_15 ++ []
def dkwX6_init_14 : List UInt8 := [188, 10, 181, 1, 40, 42, 16, 20, 188, 10, 181, 1, 43, 42, 16, 20, 188, 10, 181, 1, 46, 42]
abbrev dktX6_init_14 : List UInt8 := dkwX6_init_14 ++ dktX6_init_15
def dkwX6_init_13 : List UInt8 := [188, 10, 181, 1, 31, 42, 16, 16, 188, 10, 181, 1, 34, 42, 16, 16, 188, 10, 181, 1, 37, 42, 16, 20]
abbrev dktX6_init_13 : List UInt8 := dkwX6_init_13 ++ dktX6_init_14
def dkwX6_init_12 : List UInt8 := [188, 4, 181, 1, 22, 42, 16, 9, 188, 10, 181, 1, 25, 42, 16, 16, 188, 10, 181, 1, 28, 42, 16, 16]
abbrev dktX6_init_12 : List UInt8 := dkwX6_init_12 ++ dktX6_init_13
def dkwX6_init_11 : List UInt8 := [181, 1, 13, 42, 17, 1, 33, 188, 10, 181, 1, 16, 42, 17, 3, 99, 188, 10, 181, 1, 19, 42, 6]
abbrev dktX6_init_11 : List UInt8 := dkwX6_init_11 ++ dktX6_init_12
def dkwX6_init_10 : List UInt8 := [16, 12, 188, 10, 181, 0, 228, 42, 17, 1, 32, 188, 10, 181, 0, 207, 42, 17, 1, 33, 188, 10]
abbrev dktX6_init_10 : List UInt8 := dkwX6_init_10 ++ dktX6_init_11
def dkwX6_init_9 : List UInt8 := [181, 0, 181, 42, 5, 188, 10, 181, 0, 188, 42, 4, 181, 1, 8, 42, 6, 188, 10, 181, 1, 10, 42]
abbrev dktX6_init_9 : List UInt8 := dkwX6_init_9 ++ dktX6_init_10
def dkwX6_init_8 : List UInt8 := [181, 1, 4, 42, 5, 188, 10, 89, 3, 7, 79, 89, 4, 16, 8, 79, 181, 1, 6, 42, 5, 188, 10]
abbrev dktX6_init_8 : List UInt8 := dkwX6_init_8 ++ dktX6_init_9
def dkwX6_init_7 : List UInt8 := [79, 181, 1, 2, 42, 7, 188, 10, 181, 0, 168, 42, 5, 188, 10, 89, 3, 4, 79, 89, 4, 6, 79]
abbrev dktX6_init_7 : List UInt8 := dkwX6_init_7 ++ dktX6_init_8
def dkwX6_init_6 : List UInt8 := [188, 10, 181, 0, 165, 42, 7, 188, 10, 89, 3, 2, 79, 89, 4, 2, 79, 89, 5, 2, 79, 89, 6, 2]
abbrev dktX6_init_6 : List UInt8 := dkwX6_init_6 ++ dktX6_init_7
def dkwX6_init_5 : List UInt8 := [188, 4, 181, 0, 253, 42, 16, 64, 188, 4, 181, 0, 91, 42, 16, 36, 188, 10, 181, 1, 0, 42, 16, 36]
abbrev dktX6_init_5 : List UInt8 := dkwX6_init_5 ++ dktX6_init_6
def dkwX6_init_4 : List UInt8 := [16, 64, 188, 10, 181, 0, 83, 42, 6, 188, 10, 181, 0, 250, 42, 6, 188, 10, 181, 0, 98, 42, 16, 64]
abbrev dktX6_init_4 : List UInt8 := dkwX6_init_4 ++ dktX6_init_5
def dkwX6_init_3 : List UInt8 := [16, 8, 4, 79, 181, 0, 245, 42, 16, 9, 188, 10, 181, 0, 128, 42, 16, 64, 188, 10, 181, 0, 248, 42]
abbrev dktX6_init_3 : List UInt8 := dkwX6_init_3 ++ dktX6_init_4
def dkwX6_init_2 : List UInt8 := [6, 7, 79, 89, 7, 4, 79, 89, 8, 3, 79, 89, 16, 6, 7, 79, 89, 16, 7, 16, 6, 79, 89]
abbrev dktX6_init_2 : List UInt8 := dkwX6_init_2 ++ dktX6_init_3
def dkwX6_init_1 : List UInt8 := [8, 181, 0, 204, 42, 16, 9, 188, 10, 89, 3, 16, 6, 79, 89, 4, 5, 79, 89, 5, 16, 10, 79, 89]
abbrev dktX6_init_1 : List UInt8 := dkwX6_init_1 ++ dktX6_init_2
def dkwX6_init_0 : List UInt8 := [42, 183, 0, 240, 42, 17, 3, 132, 188, 8, 181, 0, 16, 42, 2, 181, 0, 10, 42, 8, 181, 0, 201, 42]
abbrev dktX6_init_0 : List UInt8 := dkwX6_init_0 ++ dktX6_init_1
theorem dksX6_init_0 : cX6_init.data.toList.drop 0 = dktX6_init_0 := by decide +kernel
theorem dksX6_init_1 : cX6_init.data.toList.drop 24 = dktX6_init_1 := dk_seg dksX6_init_0 24 rfl rfl
theorem dksX6_init_2 : cX6_init.data.toList.drop 48 = dktX6_init_2 := dk_seg dksX6_init_1 24 rfl rfl
theorem dksX6_init_3 : cX6_init.data.toList.drop 71 = dktX6_init_3 := dk_seg dksX6_init_2 23 rfl rfl
theorem dksX6_init_4 : cX6_init.data.toList.drop 95 = dktX6_init_4 := dk_seg dksX6_init_3 24 rfl rfl
theorem dksX6_init_5 : cX6_init.data.toList.drop 119 = dktX6_init_5 := dk_seg dksX6_init_4 24 rfl rfl
theorem dksX6_init_6 : cX6_init.data.toList.drop 143 = dktX6_init_6 := dk_seg dksX6_init_5 24 rfl rfl
theorem dksX6_init_7 : cX6_init.data.toList.drop 167 = dktX6_init_7 := dk_seg dksX6_init_6 24 rfl rfl
theorem dksX6_init_8 : cX6_init.data.toList.drop 190 = dktX6_init_8 := dk_seg dksX6_init_7 23 rfl rfl
theorem dksX6_init_9 : cX6_init.data.toList.drop 213 = dktX6_init_9 := dk_seg dksX6_init_8 23 rfl rfl
theorem dksX6_init_10 : cX6_init.data.toList.drop 236 = dktX6_init_10 := dk_seg dksX6_init_9 23 rfl rfl
theorem dksX6_init_11 : cX6_init.data.toList.drop 258 = dktX6_init_11 := dk_seg dksX6_init_10 22 rfl rfl
theorem dksX6_init_12 : cX6_init.data.toList.drop 281 = dktX6_init_12 := dk_seg dksX6_init_11 23 rfl rfl
theorem dksX6_init_13 : cX6_init.data.toList.drop 305 = dktX6_init_13 := dk_seg dksX6_init_12 24 rfl rfl
theorem dksX6_init_14 : cX6_init.data.toList.drop 329 = dktX6_init_14 := dk_seg dksX6_init_13 24 rfl rfl
theorem dksX6_init_15 : cX6_init.data.toList.drop 351 = dktX6_init_15 := dk_seg dksX6_init_14 22 rfl rfl
theorem dX6_init_0 : decode cX6_init 0 = .ok (.aload_n 0, 1) := dk_42 (dk_at dksX6_init_0 0 rfl rfl)
theorem dX6_init_1 : decode cX6_init 1 = .ok (.invokespecial 240, 3) := dk_183 0 240 (dk_at dksX6_init_0 1 rfl rfl)
theorem dX6_init_4 : decode cX6_init 4 = .ok (.aload_n 0, 1) := dk_42 (dk_at dksX6_init_0 4 rfl rfl)
theorem dX6_init_5 : decode cX6_init 5 = .ok (.sipush 900, 3) := dk_17 3 132 (dk_at dksX6_init_0 5 rfl rfl)
theorem dX6_init_8 : decode cX6_init 8 = .ok (.newarray .byte, 2) := dk_188_8 (dk_at dksX6_init_0 8 rfl rfl)
theorem dX6_init_10 : decode cX6_init 10 = .ok (.putfield 16, 3) := dk_181 0 16 (dk_at dksX6_init_0 10 rfl rfl)
theorem dX6_init_13 : decode cX6_init 13 = .ok (.aload_n 0, 1) := dk_42 (dk_at dksX6_init_0 13 rfl rfl)
theorem dX6_init_14 : decode cX6_init 14 = .ok (.iconst (-1), 1) := dk_2 (dk_at dksX6_init_0 14 rfl rfl)
theorem dX6_init_15 : decode cX6_init 15 = .ok (.putfield 10, 3) := dk_181 0 10 (dk_at dksX6_init_0 15 rfl rfl)
theorem dX6_init_18 : decode cX6_init 18 = .ok (.aload_n 0, 1) := dk_42 (dk_at dksX6_init_0 18 rfl rfl)
theorem dX6_init_19 : decode cX6_init 19 = .ok (.iconst 5, 1) := dk_8 (dk_at dksX6_init_0 19 rfl rfl)
theorem dX6_init_20 : decode cX6_init 20 = .ok (.putfield 201, 3) := dk_181 0 201 (dk_at dksX6_init_0 20 rfl rfl)
theorem dX6_init_23 : decode cX6_init 23 = .ok (.aload_n 0, 1) := dk_42 (dk_at dksX6_init_0 23 rfl rfl)
theorem dX6_init_24 : decode cX6_init 24 = .ok (.iconst 5, 1) := dk_8 (dk_at dksX6_init_1 0 rfl rfl)
theorem dX6_init_25 : decode cX6_init 25 = .ok (.putfield 204, 3) := dk_181 0 204 (dk_at dksX6_init_1 1 rfl rfl)
theorem dX6_init_28 : decode cX6_init 28 = .ok (.aload_n 0, 1) := dk_42 (dk_at dksX6_init_1 4 rfl rfl)
theorem dX6_init_29 : decode cX6_init 29 = .ok (.bipush 9, 2) := dk_16 9 (dk_at dksX6_init_1 5 rfl rfl)
theorem dX6_init_31 : decode cX6_init 31 = .ok (.newarray .int, 2) := dk_188_10 (dk_at dksX6_init_1 7 rfl rfl)
theorem dX6_init_33 : decode cX6_init 33 = .ok (.dup, 1) := dk_89 (dk_at dksX6_init_1 9 rfl rfl)
theorem dX6_init_34 : decode cX6_init 34 = .ok (.iconst 0, 1) := dk_3 (dk_at dksX6_init_1 10 rfl rfl)
theorem dX6_init_35 : decode cX6_init 35 = .ok (.bipush 6, 2) := dk_16 6 (dk_at dksX6_init_1 11 rfl rfl)
theorem dX6_init_37 : decode cX6_init 37 = .ok (.iastore, 1) := dk_79 (dk_at dksX6_init_1 13 rfl rfl)
theorem dX6_init_38 : decode cX6_init 38 = .ok (.dup, 1) := dk_89 (dk_at dksX6_init_1 14 rfl rfl)
theorem dX6_init_39 : decode cX6_init 39 = .ok (.iconst 1, 1) := dk_4 (dk_at dksX6_init_1 15 rfl rfl)
theorem dX6_init_40 : decode cX6_init 40 = .ok (.iconst 2, 1) := dk_5 (dk_at dksX6_init_1 16 rfl rfl)
theorem dX6_init_41 : decode cX6_init 41 = .ok (.iastore, 1) := dk_79 (dk_at dksX6_init_1 17 rfl rfl)
theorem dX6_init_42 : decode cX6_init 42 = .ok (.dup, 1) := dk_89 (dk_at dksX6_init_1 18 rfl rfl)
theorem dX6_init_43 : decode cX6_init 43 = .ok (.iconst 2, 1) := dk_5 (dk_at dksX6_init_1 19 rfl rfl)
theorem dX6_init_44 : decode cX6_init 44 = .ok (.bipush 10, 2) := dk_16 10 (dk_at dksX6_init_1 20 rfl rfl)
theorem dX6_init_46 : decode cX6_init 46 = .ok (.iastore, 1) := dk_79 (dk_at dksX6_init_1 22 rfl rfl)
theorem dX6_init_47 : decode cX6_init 47 = .ok (.dup, 1) := dk_89 (dk_at dksX6_init_1 23 rfl rfl)
theorem dX6_init_48 : decode cX6_init 48 = .ok (.iconst 3, 1) := dk_6 (dk_at dksX6_init_2 0 rfl rfl)
theorem dX6_init_49 : decode cX6_init 49 = .ok (.iconst 4, 1) := dk_7 (dk_at dksX6_init_2 1 rfl rfl)
theorem dX6_init_50 : decode cX6_init 50 = .ok (.iastore, 1) := dk_79 (dk_at dksX6_init_2 2 rfl rfl)
theorem dX6_init_51 : decode cX6_init 51 = .ok (.dup, 1) := dk_89 (dk_at dksX6_init_2 3 rfl rfl)
theorem dX6_init_52 : decode cX6_init 52 = .ok (.iconst 4, 1) := dk_7 (dk_at dksX6_init_2 4 rfl rfl)
theorem dX6_init_53 : decode cX6_init 53 = .ok (.iconst 1, 1) := dk_4 (dk_at dksX6_init_2 5 rfl rfl)
theorem dX6_init_54 : decode cX6_init 54 = .ok (.iastore, 1) := dk_79 (dk_at dksX6_init_2 6 rfl rfl)
theorem dX6_init_55 : decode cX6_init 55 = .ok (.dup, 1) := dk_89 (dk_at dksX6_init_2 7 rfl rfl)
theorem dX6_init_56 : decode cX6_init 56 = .ok (.iconst 5, 1) := dk_8 (dk_at dksX6_init_2 8 rfl rfl)
theorem dX6_init_57 : decode cX6_init 57 = .ok (.iconst 0, 1) := dk_3 (dk_at dksX6_init_2 9 rfl rfl)
theorem dX6_init_58 : decode cX6_init 58 = .ok (.iastore, 1) := dk_79 (dk_at dksX6_init_2 10 rfl rfl)
theorem dX6_init_59 : decode cX6_init 59 = .ok (.dup, 1) := dk_89 (dk_at dksX6_init_2 11 rfl rfl)
theorem dX6_init_60 : decode cX6_init 60 = .ok (.bipush 6, 2) := dk_16 6 (dk_at dksX6_init_2 12 rfl rfl)
theorem dX6_init_62 : decode cX6_init 62 = .ok (.iconst 4, 1) := dk_7 (dk_at dksX6_init_2 14 rfl rfl)
theorem dX6_init_63 : decode cX6_init 63 = .ok (.iastore, 1) := dk_79 (dk_at dksX6_init_2 15 rfl rfl)
theorem dX6_init_64 : decode cX6_init 64 = .ok (.dup, 1) := dk_89 (dk_at dksX6_init_2 16 rfl rfl)
theorem dX6_init_65 : decode cX6_init 65 = .ok (.bipush 7, 2) := dk_16 7 (dk_at dksX6_init_2 17 rfl rfl)
theorem dX6_init_67 : decode cX6_init 67 = .ok (.bipush 6, 2) := dk_16 6 (dk_at dksX6_init_2 19 rfl rfl)
theorem dX6_init_69 : decode cX6_init 69 = .ok (.iastore, 1) := dk_79 (dk_at dksX6_init_2 21 rfl rfl)
theorem dX6_init_70 : decode cX6_init 70 = .ok (.dup, 1) := dk_89 (dk_at dksX6_init_2 22 rfl rfl)
theorem dX6_init_71 : decode cX6_init 71 = .ok (.bipush 8, 2) := dk_16 8 (dk_at dksX6_init_3 0 rfl rfl)
theorem dX6_init_73 : decode cX6_init 73 = .ok (.iconst 1, 1) := dk_4 (dk_at dksX6_init_3 2 rfl rfl)
theorem dX6_init_74 : decode cX6_init 74 = .ok (.iastore, 1) := dk_79 (dk_at dksX6_init_3 3 rfl rfl)
theorem dX6_init_75 : decode cX6_init 75 = .ok (.putfield 245, 3) := dk_181 0 245 (dk_at dksX6_init_3 4 rfl rfl)
theorem dX6_init_78 : decode cX6_init 78 = .ok (.aload_n 0, 1) := dk_42 (dk_at dksX6_init_3 7 rfl rfl)
theorem dX6_init_79 : decode cX6_init 79 = .ok (.bipush 9, 2) := dk_16 9 (dk_at dksX6_init_3 8 rfl rfl)
theorem dX6_init_81 : decode cX6_init 81 = .ok (.newarray .int, 2) := dk_188_10 (dk_at dksX6_init_3 10 rfl rfl)
theorem dX6_init_83 : decode cX6_init 83 = .ok (.putfield 128, 3) := dk_181 0 128 (dk_at dksX6_init_3 12 rfl rfl)
theorem dX6_init_86 : decode cX6_init 86 = .ok (.aload_n 0, 1) := dk_42 (dk_at dksX6_init_3 15 rfl rfl)
theorem dX6_init_87 : decode cX6_init 87 = .ok (.bipush 64, 2) := dk_16 64 (dk_at dksX6_init_3 16 rfl rfl)
theorem dX6_init_89 : decode cX6_init 89 = .ok (.newarray .int, 2) := dk_188_10 (dk_at dksX6_init_3 18 rfl rfl)
theorem dX6_init_91 : decode cX6_init 91 = .ok (.putfield 248, 3) := dk_181 0 248 (dk_at dksX6_init_3 20 rfl rfl)
theorem dX6_init_94 : decode cX6_init 94 = .ok (.aload_n 0, 1) := dk_42 (dk_at dksX6_init_3 23 rfl rfl)
theorem dX6_init_95 : decode cX6_init 95 = .ok (.bipush 64, 2) := dk_16 64 (dk_at dksX6_init_4 0 rfl rfl)
theorem dX6_init_97 : decode cX6_init 97 = .ok (.newarray .int, 2) := dk_188_10 (dk_at dksX6_init_4 2 rfl rfl)
theorem dX6_init_99 : decode cX6_init 99 = .ok (.putfield 83, 3) := dk_181 0 83 (dk_at dksX6_init_4 4 rfl rfl)
theorem dX6_init_102 : decode cX6_init 102 = .ok (.aload_n 0, 1) := dk_42 (dk_at dksX6_init_4 7 rfl rfl)
theorem dX6_init_103 : decode cX6_init 103 = .ok (.iconst 3, 1) := dk_6 (dk_at dksX6_init_4 8 rfl rfl)
theorem dX6_init_104 : decode cX6_init 104 = .ok (.newarray .int, 2) := dk_188_10 (dk_at dksX6_init_4 9 rfl rfl)
theorem dX6_init_106 : decode cX6_init 106 = .ok (.putfield 250, 3) := dk_181 0 250 (dk_at dksX6_init_4 11 rfl rfl)
theorem dX6_init_109 : decode cX6_init 109 = .ok (.aload_n 0, 1) := dk_42 (dk_at dksX6_init_4 14 rfl rfl)
theorem dX6_init_110 : decode cX6_init 110 = .ok (.iconst 3, 1) := dk_6 (dk_at dksX6_init_4 15 rfl rfl)
theorem dX6_init_111 : decode cX6_init 111 = .ok (.newarray .int, 2) := dk_188_10 (dk_at dksX6_init_4 16 rfl rfl)
theorem dX6_init_113 : decode cX6_init 113 = .ok (.putfield 98, 3) := dk_181 0 98 (dk_at dksX6_init_4 18 rfl rfl)
theorem dX6_init_116 : decode cX6_init 116 = .ok (.aload_n 0, 1) := dk_42 (dk_at dksX6_init_4 21 rfl rfl)
theorem dX6_init_117 : decode cX6_init 117 = .ok (.bipush 64, 2) := dk_16 64 (dk_at dksX6_init_4 22 rfl rfl)
theorem dX6_init_119 : decode cX6_init 119 = .ok (.newarray .boolean, 2) := dk_188_4 (dk_at dksX6_init_5 0 rfl rfl)
theorem dX6_init_121 : decode cX6_init 121 = .ok (.putfield 253, 3) := dk_181 0 253 (dk_at dksX6_init_5 2 rfl rfl)
theorem dX6_init_124 : decode cX6_init 124 = .ok (.aload_n 0, 1) := dk_42 (dk_at dksX6_init_5 5 rfl rfl)
theorem dX6_init_125 : decode cX6_init 125 = .ok (.bipush 64, 2) := dk_16 64 (dk_at dksX6_init_5 6 rfl rfl)
theorem dX6_init_127 : decode cX6_init 127 = .ok (.newarray .boolean, 2) := dk_188_4 (dk_at dksX6_init_5 8 rfl rfl)
theorem dX6_init_129 : decode cX6_init 129 = .ok (.putfield 91, 3) := dk_181 0 91 (dk_at dksX6_init_5 10 rfl rfl)
theorem dX6_init_132 : decode cX6_init 132 = .ok (.aload_n 0, 1) := dk_42 (dk_at dksX6_init_5 13 rfl rfl)
theorem dX6_init_133 : decode cX6_init 133 = .ok (.bipush 36, 2) := dk_16 36 (dk_at dksX6_init_5 14 rfl rfl)
theorem dX6_init_135 : decode cX6_init 135 = .ok (.newarray .int, 2) := dk_188_10 (dk_at dksX6_init_5 16 rfl rfl)
theorem dX6_init_137 : decode cX6_init 137 = .ok (.putfield 256, 3) := dk_181 1 0 (dk_at dksX6_init_5 18 rfl rfl)
theorem dX6_init_140 : decode cX6_init 140 = .ok (.aload_n 0, 1) := dk_42 (dk_at dksX6_init_5 21 rfl rfl)
theorem dX6_init_141 : decode cX6_init 141 = .ok (.bipush 36, 2) := dk_16 36 (dk_at dksX6_init_5 22 rfl rfl)
theorem dX6_init_143 : decode cX6_init 143 = .ok (.newarray .int, 2) := dk_188_10 (dk_at dksX6_init_6 0 rfl rfl)
theorem dX6_init_145 : decode cX6_init 145 = .ok (.putfield 165, 3) := dk_181 0 165 (dk_at dksX6_init_6 2 rfl rfl)
theorem dX6_init_148 : decode cX6_init 148 = .ok (.aload_n 0, 1) := dk_42 (dk_at dksX6_init_6 5 rfl rfl)
theorem dX6_init_149 : decode cX6_init 149 = .ok (.iconst 4, 1) := dk_7 (dk_at dksX6_init_6 6 rfl rfl)
theorem dX6_init_150 : decode cX6_init 150 = .ok (.newarray .int, 2) := dk_188_10 (dk_at dksX6_init_6 7 rfl rfl)
theorem dX6_init_152 : decode cX6_init 152 = .ok (.dup, 1) := dk_89 (dk_at dksX6_init_6 9 rfl rfl)
theorem dX6_init_153 : decode cX6_init 153 = .ok (.iconst 0, 1) := dk_3 (dk_at dksX6_init_6 10 rfl rfl)
theorem dX6_init_154 : decode cX6_init 154 = .ok (.iconst (-1), 1) := dk_2 (dk_at dksX6_init_6 11 rfl rfl)
theorem dX6_init_155 : decode cX6_init 155 = .ok (.iastore, 1) := dk_79 (dk_at dksX6_init_6 12 rfl rfl)
theorem dX6_init_156 : decode cX6_init 156 = .ok (.dup, 1) := dk_89 (dk_at dksX6_init_6 13 rfl rfl)
theorem dX6_init_157 : decode cX6_init 157 = .ok (.iconst 1, 1) := dk_4 (dk_at dksX6_init_6 14 rfl rfl)
theorem dX6_init_158 : decode cX6_init 158 = .ok (.iconst (-1), 1) := dk_2 (dk_at dksX6_init_6 15 rfl rfl)
theorem dX6_init_159 : decode cX6_init 159 = .ok (.iastore, 1) := dk_79 (dk_at dksX6_init_6 16 rfl rfl)
theorem dX6_init_160 : decode cX6_init 160 = .ok (.dup, 1) := dk_89 (dk_at dksX6_init_6 17 rfl rfl)
theorem dX6_init_161 : decode cX6_init 161 = .ok (.iconst 2, 1) := dk_5 (dk_at dksX6_init_6 18 rfl rfl)
theorem dX6_init_162 : decode cX6_init 162 = .ok (.iconst (-1), 1) := dk_2 (dk_at dksX6_init_6 19 rfl rfl)
theorem dX6_init_163 : decode cX6_init 163 = .ok (.iastore, 1) := dk_79 (dk_at dksX6_init_6 20 rfl rfl)
theorem dX6_init_164 : decode cX6_init 164 = .ok (.dup, 1) := dk_89 (dk_at dksX6_init_6 21 rfl rfl)
theorem dX6_init_165 : decode cX6_init 165 = .ok (.iconst 3, 1) := dk_6 (dk_at dksX6_init_6 22 rfl rfl)
theorem dX6_init_166 : decode cX6_init 166 = .ok (.iconst (-1), 1) := dk_2 (dk_at dksX6_init_6 23 rfl rfl)
theorem dX6_init_167 : decode cX6_init 167 = .ok (.iastore, 1) := dk_79 (dk_at dksX6_init_7 0 rfl rfl)
theorem dX6_init_168 : decode cX6_init 168 = .ok (.putfield 258, 3) := dk_181 1 2 (dk_at dksX6_init_7 1 rfl rfl)
theorem dX6_init_171 : decode cX6_init 171 = .ok (.aload_n 0, 1) := dk_42 (dk_at dksX6_init_7 4 rfl rfl)
theorem dX6_init_172 : decode cX6_init 172 = .ok (.iconst 4, 1) := dk_7 (dk_at dksX6_init_7 5 rfl rfl)
theorem dX6_init_173 : decode cX6_init 173 = .ok (.newarray .int, 2) := dk_188_10 (dk_at dksX6_init_7 6 rfl rfl)
theorem dX6_init_175 : decode cX6_init 175 = .ok (.putfield 168, 3) := dk_181 0 168 (dk_at dksX6_init_7 8 rfl rfl)
theorem dX6_init_178 : decode cX6_init 178 = .ok (.aload_n 0, 1) := dk_42 (dk_at dksX6_init_7 11 rfl rfl)
theorem dX6_init_179 : decode cX6_init 179 = .ok (.iconst 2, 1) := dk_5 (dk_at dksX6_init_7 12 rfl rfl)
theorem dX6_init_180 : decode cX6_init 180 = .ok (.newarray .int, 2) := dk_188_10 (dk_at dksX6_init_7 13 rfl rfl)
theorem dX6_init_182 : decode cX6_init 182 = .ok (.dup, 1) := dk_89 (dk_at dksX6_init_7 15 rfl rfl)
theorem dX6_init_183 : decode cX6_init 183 = .ok (.iconst 0, 1) := dk_3 (dk_at dksX6_init_7 16 rfl rfl)
theorem dX6_init_184 : decode cX6_init 184 = .ok (.iconst 1, 1) := dk_4 (dk_at dksX6_init_7 17 rfl rfl)
theorem dX6_init_185 : decode cX6_init 185 = .ok (.iastore, 1) := dk_79 (dk_at dksX6_init_7 18 rfl rfl)
theorem dX6_init_186 : decode cX6_init 186 = .ok (.dup, 1) := dk_89 (dk_at dksX6_init_7 19 rfl rfl)
theorem dX6_init_187 : decode cX6_init 187 = .ok (.iconst 1, 1) := dk_4 (dk_at dksX6_init_7 20 rfl rfl)
theorem dX6_init_188 : decode cX6_init 188 = .ok (.iconst 3, 1) := dk_6 (dk_at dksX6_init_7 21 rfl rfl)
theorem dX6_init_189 : decode cX6_init 189 = .ok (.iastore, 1) := dk_79 (dk_at dksX6_init_7 22 rfl rfl)
theorem dX6_init_190 : decode cX6_init 190 = .ok (.putfield 260, 3) := dk_181 1 4 (dk_at dksX6_init_8 0 rfl rfl)
theorem dX6_init_193 : decode cX6_init 193 = .ok (.aload_n 0, 1) := dk_42 (dk_at dksX6_init_8 3 rfl rfl)
theorem dX6_init_194 : decode cX6_init 194 = .ok (.iconst 2, 1) := dk_5 (dk_at dksX6_init_8 4 rfl rfl)
theorem dX6_init_195 : decode cX6_init 195 = .ok (.newarray .int, 2) := dk_188_10 (dk_at dksX6_init_8 5 rfl rfl)
theorem dX6_init_197 : decode cX6_init 197 = .ok (.dup, 1) := dk_89 (dk_at dksX6_init_8 7 rfl rfl)
theorem dX6_init_198 : decode cX6_init 198 = .ok (.iconst 0, 1) := dk_3 (dk_at dksX6_init_8 8 rfl rfl)
theorem dX6_init_199 : decode cX6_init 199 = .ok (.iconst 4, 1) := dk_7 (dk_at dksX6_init_8 9 rfl rfl)
theorem dX6_init_200 : decode cX6_init 200 = .ok (.iastore, 1) := dk_79 (dk_at dksX6_init_8 10 rfl rfl)
theorem dX6_init_201 : decode cX6_init 201 = .ok (.dup, 1) := dk_89 (dk_at dksX6_init_8 11 rfl rfl)
theorem dX6_init_202 : decode cX6_init 202 = .ok (.iconst 1, 1) := dk_4 (dk_at dksX6_init_8 12 rfl rfl)
theorem dX6_init_203 : decode cX6_init 203 = .ok (.bipush 8, 2) := dk_16 8 (dk_at dksX6_init_8 13 rfl rfl)
theorem dX6_init_205 : decode cX6_init 205 = .ok (.iastore, 1) := dk_79 (dk_at dksX6_init_8 15 rfl rfl)
theorem dX6_init_206 : decode cX6_init 206 = .ok (.putfield 262, 3) := dk_181 1 6 (dk_at dksX6_init_8 16 rfl rfl)
theorem dX6_init_209 : decode cX6_init 209 = .ok (.aload_n 0, 1) := dk_42 (dk_at dksX6_init_8 19 rfl rfl)
theorem dX6_init_210 : decode cX6_init 210 = .ok (.iconst 2, 1) := dk_5 (dk_at dksX6_init_8 20 rfl rfl)
theorem dX6_init_211 : decode cX6_init 211 = .ok (.newarray .int, 2) := dk_188_10 (dk_at dksX6_init_8 21 rfl rfl)
theorem dX6_init_213 : decode cX6_init 213 = .ok (.putfield 181, 3) := dk_181 0 181 (dk_at dksX6_init_9 0 rfl rfl)
theorem dX6_init_216 : decode cX6_init 216 = .ok (.aload_n 0, 1) := dk_42 (dk_at dksX6_init_9 3 rfl rfl)
theorem dX6_init_217 : decode cX6_init 217 = .ok (.iconst 2, 1) := dk_5 (dk_at dksX6_init_9 4 rfl rfl)
theorem dX6_init_218 : decode cX6_init 218 = .ok (.newarray .int, 2) := dk_188_10 (dk_at dksX6_init_9 5 rfl rfl)
theorem dX6_init_220 : decode cX6_init 220 = .ok (.putfield 188, 3) := dk_181 0 188 (dk_at dksX6_init_9 7 rfl rfl)
theorem dX6_init_223 : decode cX6_init 223 = .ok (.aload_n 0, 1) := dk_42 (dk_at dksX6_init_9 10 rfl rfl)
theorem dX6_init_224 : decode cX6_init 224 = .ok (.iconst 1, 1) := dk_4 (dk_at dksX6_init_9 11 rfl rfl)
theorem dX6_init_225 : decode cX6_init 225 = .ok (.putfield 264, 3) := dk_181 1 8 (dk_at dksX6_init_9 12 rfl rfl)
theorem dX6_init_228 : decode cX6_init 228 = .ok (.aload_n 0, 1) := dk_42 (dk_at dksX6_init_9 15 rfl rfl)
theorem dX6_init_229 : decode cX6_init 229 = .ok (.iconst 3, 1) := dk_6 (dk_at dksX6_init_9 16 rfl rfl)
theorem dX6_init_230 : decode cX6_init 230 = .ok (.newarray .int, 2) := dk_188_10 (dk_at dksX6_init_9 17 rfl rfl)
theorem dX6_init_232 : decode cX6_init 232 = .ok (.putfield 266, 3) := dk_181 1 10 (dk_at dksX6_init_9 19 rfl rfl)
theorem dX6_init_235 : decode cX6_init 235 = .ok (.aload_n 0, 1) := dk_42 (dk_at dksX6_init_9 22 rfl rfl)
theorem dX6_init_236 : decode cX6_init 236 = .ok (.bipush 12, 2) := dk_16 12 (dk_at dksX6_init_10 0 rfl rfl)
theorem dX6_init_238 : decode cX6_init 238 = .ok (.newarray .int, 2) := dk_188_10 (dk_at dksX6_init_10 2 rfl rfl)
theorem dX6_init_240 : decode cX6_init 240 = .ok (.putfield 228, 3) := dk_181 0 228 (dk_at dksX6_init_10 4 rfl rfl)
theorem dX6_init_243 : decode cX6_init 243 = .ok (.aload_n 0, 1) := dk_42 (dk_at dksX6_init_10 7 rfl rfl)
theorem dX6_init_244 : decode cX6_init 244 = .ok (.sipush 288, 3) := dk_17 1 32 (dk_at dksX6_init_10 8 rfl rfl)
theorem dX6_init_247 : decode cX6_init 247 = .ok (.newarray .int, 2) := dk_188_10 (dk_at dksX6_init_10 11 rfl rfl)
theorem dX6_init_249 : decode cX6_init 249 = .ok (.putfield 207, 3) := dk_181 0 207 (dk_at dksX6_init_10 13 rfl rfl)
theorem dX6_init_252 : decode cX6_init 252 = .ok (.aload_n 0, 1) := dk_42 (dk_at dksX6_init_10 16 rfl rfl)
theorem dX6_init_253 : decode cX6_init 253 = .ok (.sipush 289, 3) := dk_17 1 33 (dk_at dksX6_init_10 17 rfl rfl)
theorem dX6_init_256 : decode cX6_init 256 = .ok (.newarray .int, 2) := dk_188_10 (dk_at dksX6_init_10 20 rfl rfl)
theorem dX6_init_258 : decode cX6_init 258 = .ok (.putfield 269, 3) := dk_181 1 13 (dk_at dksX6_init_11 0 rfl rfl)
theorem dX6_init_261 : decode cX6_init 261 = .ok (.aload_n 0, 1) := dk_42 (dk_at dksX6_init_11 3 rfl rfl)
theorem dX6_init_262 : decode cX6_init 262 = .ok (.sipush 289, 3) := dk_17 1 33 (dk_at dksX6_init_11 4 rfl rfl)
theorem dX6_init_265 : decode cX6_init 265 = .ok (.newarray .int, 2) := dk_188_10 (dk_at dksX6_init_11 7 rfl rfl)
theorem dX6_init_267 : decode cX6_init 267 = .ok (.putfield 272, 3) := dk_181 1 16 (dk_at dksX6_init_11 9 rfl rfl)
theorem dX6_init_270 : decode cX6_init 270 = .ok (.aload_n 0, 1) := dk_42 (dk_at dksX6_init_11 12 rfl rfl)
theorem dX6_init_271 : decode cX6_init 271 = .ok (.sipush 867, 3) := dk_17 3 99 (dk_at dksX6_init_11 13 rfl rfl)
theorem dX6_init_274 : decode cX6_init 274 = .ok (.newarray .int, 2) := dk_188_10 (dk_at dksX6_init_11 16 rfl rfl)
theorem dX6_init_276 : decode cX6_init 276 = .ok (.putfield 275, 3) := dk_181 1 19 (dk_at dksX6_init_11 18 rfl rfl)
theorem dX6_init_279 : decode cX6_init 279 = .ok (.aload_n 0, 1) := dk_42 (dk_at dksX6_init_11 21 rfl rfl)
theorem dX6_init_280 : decode cX6_init 280 = .ok (.iconst 3, 1) := dk_6 (dk_at dksX6_init_11 22 rfl rfl)
theorem dX6_init_281 : decode cX6_init 281 = .ok (.newarray .boolean, 2) := dk_188_4 (dk_at dksX6_init_12 0 rfl rfl)
theorem dX6_init_283 : decode cX6_init 283 = .ok (.putfield 278, 3) := dk_181 1 22 (dk_at dksX6_init_12 2 rfl rfl)
theorem dX6_init_286 : decode cX6_init 286 = .ok (.aload_n 0, 1) := dk_42 (dk_at dksX6_init_12 5 rfl rfl)
theorem dX6_init_287 : decode cX6_init 287 = .ok (.bipush 9, 2) := dk_16 9 (dk_at dksX6_init_12 6 rfl rfl)
theorem dX6_init_289 : decode cX6_init 289 = .ok (.newarray .int, 2) := dk_188_10 (dk_at dksX6_init_12 8 rfl rfl)
theorem dX6_init_291 : decode cX6_init 291 = .ok (.putfield 281, 3) := dk_181 1 25 (dk_at dksX6_init_12 10 rfl rfl)
theorem dX6_init_294 : decode cX6_init 294 = .ok (.aload_n 0, 1) := dk_42 (dk_at dksX6_init_12 13 rfl rfl)
theorem dX6_init_295 : decode cX6_init 295 = .ok (.bipush 16, 2) := dk_16 16 (dk_at dksX6_init_12 14 rfl rfl)
theorem dX6_init_297 : decode cX6_init 297 = .ok (.newarray .int, 2) := dk_188_10 (dk_at dksX6_init_12 16 rfl rfl)
theorem dX6_init_299 : decode cX6_init 299 = .ok (.putfield 284, 3) := dk_181 1 28 (dk_at dksX6_init_12 18 rfl rfl)
theorem dX6_init_302 : decode cX6_init 302 = .ok (.aload_n 0, 1) := dk_42 (dk_at dksX6_init_12 21 rfl rfl)
theorem dX6_init_303 : decode cX6_init 303 = .ok (.bipush 16, 2) := dk_16 16 (dk_at dksX6_init_12 22 rfl rfl)
theorem dX6_init_305 : decode cX6_init 305 = .ok (.newarray .int, 2) := dk_188_10 (dk_at dksX6_init_13 0 rfl rfl)
theorem dX6_init_307 : decode cX6_init 307 = .ok (.putfield 287, 3) := dk_181 1 31 (dk_at dksX6_init_13 2 rfl rfl)
theorem dX6_init_310 : decode cX6_init 310 = .ok (.aload_n 0, 1) := dk_42 (dk_at dksX6_init_13 5 rfl rfl)
theorem dX6_init_311 : decode cX6_init 311 = .ok (.bipush 16, 2) := dk_16 16 (dk_at dksX6_init_13 6 rfl rfl)
theorem dX6_init_313 : decode cX6_init 313 = .ok (.newarray .int, 2) := dk_188_10 (dk_at dksX6_init_13 8 rfl rfl)
theorem dX6_init_315 : decode cX6_init 315 = .ok (.putfield 290, 3) := dk_181 1 34 (dk_at dksX6_init_13 10 rfl rfl)
theorem dX6_init_318 : decode cX6_init 318 = .ok (.aload_n 0, 1) := dk_42 (dk_at dksX6_init_13 13 rfl rfl)
theorem dX6_init_319 : decode cX6_init 319 = .ok (.bipush 16, 2) := dk_16 16 (dk_at dksX6_init_13 14 rfl rfl)
theorem dX6_init_321 : decode cX6_init 321 = .ok (.newarray .int, 2) := dk_188_10 (dk_at dksX6_init_13 16 rfl rfl)
theorem dX6_init_323 : decode cX6_init 323 = .ok (.putfield 293, 3) := dk_181 1 37 (dk_at dksX6_init_13 18 rfl rfl)
theorem dX6_init_326 : decode cX6_init 326 = .ok (.aload_n 0, 1) := dk_42 (dk_at dksX6_init_13 21 rfl rfl)
theorem dX6_init_327 : decode cX6_init 327 = .ok (.bipush 20, 2) := dk_16 20 (dk_at dksX6_init_13 22 rfl rfl)
theorem dX6_init_329 : decode cX6_init 329 = .ok (.newarray .int, 2) := dk_188_10 (dk_at dksX6_init_14 0 rfl rfl)
theorem dX6_init_331 : decode cX6_init 331 = .ok (.putfield 296, 3) := dk_181 1 40 (dk_at dksX6_init_14 2 rfl rfl)
theorem dX6_init_334 : decode cX6_init 334 = .ok (.aload_n 0, 1) := dk_42 (dk_at dksX6_init_14 5 rfl rfl)
theorem dX6_init_335 : decode cX6_init 335 = .ok (.bipush 20, 2) := dk_16 20 (dk_at dksX6_init_14 6 rfl rfl)
theorem dX6_init_337 : decode cX6_init 337 = .ok (.newarray .int, 2) := dk_188_10 (dk_at dksX6_init_14 8 rfl rfl)
theorem dX6_init_339 : decode cX6_init 339 = .ok (.putfield 299, 3) := dk_181 1 43 (dk_at dksX6_init_14 10 rfl rfl)
theorem dX6_init_342 : decode cX6_init 342 = .ok (.aload_n 0, 1) := dk_42 (dk_at dksX6_init_14 13 rfl rfl)
theorem dX6_init_343 : decode cX6_init 343 = .ok (.bipush 20, 2) := dk_16 20 (dk_at dksX6_init_14 14 rfl rfl)
theorem dX6_init_345 : decode cX6_init 345 = .ok (.newarray .int, 2) := dk_188_10 (dk_at dksX6_init_14 16 rfl rfl)
theorem dX6_init_347 : decode cX6_init 347 = .ok (.putfield 302, 3) := dk_181 1 46 (dk_at dksX6_init_14 18 rfl rfl)
theorem dX6_init_350 : decode cX6_init 350 = .ok (.aload_n 0, 1) := dk_42 (dk_at dksX6_init_14 21 rfl rfl)
theorem dX6_init_351 : decode cX6_init 351 = .ok (.sipush 496, 3) := dk_17 1 240 (dk_at dksX6_init_15 0 rfl rfl)
theorem dX6_init_354 : decode cX6_init 354 = .ok (.newarray .int, 2) := dk_188_10 (dk_at dksX6_init_15 3 rfl rfl)
theorem dX6_init_356 : decode cX6_init 356 = .ok (.putfield 305, 3) := dk_181 1 49 (dk_at dksX6_init_15 5 rfl rfl)
theorem dX6_init_359 : decode cX6_init 359 = .ok (.aload_n 0, 1) := dk_42 (dk_at dksX6_init_15 8 rfl rfl)
theorem dX6_init_360 : decode cX6_init 360 = .ok (.getfield 269, 3) := dk_180 1 13 (dk_at dksX6_init_15 9 rfl rfl)
theorem dX6_init_363 : decode cX6_init 363 = .ok (.sipush 288, 3) := dk_17 1 32 (dk_at dksX6_init_15 12 rfl rfl)
theorem dX6_init_366 : decode cX6_init 366 = .ok (.iconst 1, 1) := dk_4 (dk_at dksX6_init_15 15 rfl rfl)
theorem dX6_init_367 : decode cX6_init 367 = .ok (.iastore, 1) := dk_79 (dk_at dksX6_init_15 16 rfl rfl)
theorem dX6_init_368 : decode cX6_init 368 = .ok (.aload_n 0, 1) := dk_42 (dk_at dksX6_init_15 17 rfl rfl)
theorem dX6_init_369 : decode cX6_init 369 = .ok (.invokevirtual 308, 3) := dk_182 1 52 (dk_at dksX6_init_15 18 rfl rfl)
theorem dX6_init_372 : decode cX6_init 372 = .ok (.return_, 1) := dk_177 (dk_at dksX6_init_15 21 rfl rfl)
abbrev cX6_beginNow : ByteArray := prog_16_method_33_code
def yX6_beginNow : MethodName := ⟨RX6, "beginNow", "()V"⟩
def dkwX6_beginNow_6 : List UInt8 := [180, 1, 13, 17, 1, 19, 2, 79, 42, 180, 1, 13, 17, 1, 32, 27, 79, 177]
abbrev dktX6_beginNow_6 : List UInt8 := dkwX6_beginNow_6 ++ []
def dkwX6_beginNow_5 : List UInt8 := [162, 0, 22, 42, 180, 1, 13, 42, 180, 0, 250, 28, 46, 184, 1, 58, 132, 2, 1, 167, 255, 232, 42]
abbrev dktX6_beginNow_5 : List UInt8 := dkwX6_beginNow_5 ++ dktX6_beginNow_6
def dkwX6_beginNow_4 : List UInt8 := [28, 51, 153, 0, 7, 4, 167, 0, 4, 3, 79, 132, 2, 1, 167, 255, 180, 3, 61, 28, 42, 180, 1, 55]
abbrev dktX6_beginNow_4 : List UInt8 := dkwX6_beginNow_4 ++ dktX6_beginNow_5
def dkwX6_beginNow_3 : List UInt8 := [16, 64, 28, 96, 42, 180, 0, 245, 6, 46, 79, 42, 180, 1, 13, 17, 0, 192, 28, 96, 42, 180, 0, 253]
abbrev dktX6_beginNow_3 : List UInt8 := dkwX6_beginNow_3 ++ dktX6_beginNow_4
def dkwX6_beginNow_2 : List UInt8 := [180, 1, 13, 3, 28, 96, 42, 180, 0, 245, 3, 46, 42, 180, 0, 248, 28, 46, 96, 79, 42, 180, 1, 13]
abbrev dktX6_beginNow_2 : List UInt8 := dkwX6_beginNow_2 ++ dktX6_beginNow_3
def dkwX6_beginNow_1 : List UInt8 := [79, 132, 2, 1, 167, 255, 239, 3, 61, 28, 42, 180, 0, 201, 42, 180, 0, 204, 104, 162, 0, 69, 42]
abbrev dktX6_beginNow_1 : List UInt8 := dkwX6_beginNow_1 ++ dktX6_beginNow_2
def dkwX6_beginNow_0 : List UInt8 := [42, 180, 1, 13, 17, 1, 32, 46, 60, 3, 61, 28, 17, 1, 33, 162, 0, 16, 42, 180, 1, 13, 28, 3]
abbrev dktX6_beginNow_0 : List UInt8 := dkwX6_beginNow_0 ++ dktX6_beginNow_1
theorem dksX6_beginNow_0 : cX6_beginNow.data.toList.drop 0 = dktX6_beginNow_0 := by decide +kernel
theorem dksX6_beginNow_1 : cX6_beginNow.data.toList.drop 24 = dktX6_beginNow_1 := dk_seg dksX6_beginNow_0 24 rfl rfl
theorem dksX6_beginNow_2 : cX6_beginNow.data.toList.drop 47 = dktX6_beginNow_2 := dk_seg dksX6_beginNow_1 23 rfl rfl
theorem dksX6_beginNow_3 : cX6_beginNow.data.toList.drop 71 = dktX6_beginNow_3 := dk_seg dksX6_beginNow_2 24 rfl rfl
theorem dksX6_beginNow_4 : cX6_beginNow.data.toList.drop 95 = dktX6_beginNow_4 := dk_seg dksX6_beginNow_3 24 rfl rfl
theorem dksX6_beginNow_5 : cX6_beginNow.data.toList.drop 119 = dktX6_beginNow_5 := dk_seg dksX6_beginNow_4 24 rfl rfl
theorem dksX6_beginNow_6 : cX6_beginNow.data.toList.drop 142 = dktX6_beginNow_6 := dk_seg dksX6_beginNow_5 23 rfl rfl
theorem dX6_beginNow_0 : decode cX6_beginNow 0 = .ok (.aload_n 0, 1) := dk_42 (dk_at dksX6_beginNow_0 0 rfl rfl)
theorem dX6_beginNow_1 : decode cX6_beginNow 1 = .ok (.getfield 269, 3) := dk_180 1 13 (dk_at dksX6_beginNow_0 1 rfl rfl)
theorem dX6_beginNow_4 : decode cX6_beginNow 4 = .ok (.sipush 288, 3) := dk_17 1 32 (dk_at dksX6_beginNow_0 4 rfl rfl)
theorem dX6_beginNow_7 : decode cX6_beginNow 7 = .ok (.iaload, 1) := dk_46 (dk_at dksX6_beginNow_0 7 rfl rfl)
theorem dX6_beginNow_8 : decode cX6_beginNow 8 = .ok (.istore_n 1, 1) := dk_60 (dk_at dksX6_beginNow_0 8 rfl rfl)
theorem dX6_beginNow_9 : decode cX6_beginNow 9 = .ok (.iconst 0, 1) := dk_3 (dk_at dksX6_beginNow_0 9 rfl rfl)
theorem dX6_beginNow_10 : decode cX6_beginNow 10 = .ok (.istore_n 2, 1) := dk_61 (dk_at dksX6_beginNow_0 10 rfl rfl)
theorem dX6_beginNow_11 : decode cX6_beginNow 11 = .ok (.iload_n 2, 1) := dk_28 (dk_at dksX6_beginNow_0 11 rfl rfl)
theorem dX6_beginNow_12 : decode cX6_beginNow 12 = .ok (.sipush 289, 3) := dk_17 1 33 (dk_at dksX6_beginNow_0 12 rfl rfl)
theorem dX6_beginNow_15 : decode cX6_beginNow 15 = .ok (.if_icmp .ge 16, 3) := dk_162 0 16 (dk_at dksX6_beginNow_0 15 rfl rfl)
theorem dX6_beginNow_18 : decode cX6_beginNow 18 = .ok (.aload_n 0, 1) := dk_42 (dk_at dksX6_beginNow_0 18 rfl rfl)
theorem dX6_beginNow_19 : decode cX6_beginNow 19 = .ok (.getfield 269, 3) := dk_180 1 13 (dk_at dksX6_beginNow_0 19 rfl rfl)
theorem dX6_beginNow_22 : decode cX6_beginNow 22 = .ok (.iload_n 2, 1) := dk_28 (dk_at dksX6_beginNow_0 22 rfl rfl)
theorem dX6_beginNow_23 : decode cX6_beginNow 23 = .ok (.iconst 0, 1) := dk_3 (dk_at dksX6_beginNow_0 23 rfl rfl)
theorem dX6_beginNow_24 : decode cX6_beginNow 24 = .ok (.iastore, 1) := dk_79 (dk_at dksX6_beginNow_1 0 rfl rfl)
theorem dX6_beginNow_25 : decode cX6_beginNow 25 = .ok (.iinc 2 1, 3) := dk_132 2 1 (dk_at dksX6_beginNow_1 1 rfl rfl)
theorem dX6_beginNow_28 : decode cX6_beginNow 28 = .ok (.goto (-17), 3) := dk_167 255 239 (dk_at dksX6_beginNow_1 4 rfl rfl)
theorem dX6_beginNow_31 : decode cX6_beginNow 31 = .ok (.iconst 0, 1) := dk_3 (dk_at dksX6_beginNow_1 7 rfl rfl)
theorem dX6_beginNow_32 : decode cX6_beginNow 32 = .ok (.istore_n 2, 1) := dk_61 (dk_at dksX6_beginNow_1 8 rfl rfl)
theorem dX6_beginNow_33 : decode cX6_beginNow 33 = .ok (.iload_n 2, 1) := dk_28 (dk_at dksX6_beginNow_1 9 rfl rfl)
theorem dX6_beginNow_34 : decode cX6_beginNow 34 = .ok (.aload_n 0, 1) := dk_42 (dk_at dksX6_beginNow_1 10 rfl rfl)
theorem dX6_beginNow_35 : decode cX6_beginNow 35 = .ok (.getfield 201, 3) := dk_180 0 201 (dk_at dksX6_beginNow_1 11 rfl rfl)
theorem dX6_beginNow_38 : decode cX6_beginNow 38 = .ok (.aload_n 0, 1) := dk_42 (dk_at dksX6_beginNow_1 14 rfl rfl)
theorem dX6_beginNow_39 : decode cX6_beginNow 39 = .ok (.getfield 204, 3) := dk_180 0 204 (dk_at dksX6_beginNow_1 15 rfl rfl)
theorem dX6_beginNow_42 : decode cX6_beginNow 42 = .ok (.imul, 1) := dk_104 (dk_at dksX6_beginNow_1 18 rfl rfl)
theorem dX6_beginNow_43 : decode cX6_beginNow 43 = .ok (.if_icmp .ge 69, 3) := dk_162 0 69 (dk_at dksX6_beginNow_1 19 rfl rfl)
theorem dX6_beginNow_46 : decode cX6_beginNow 46 = .ok (.aload_n 0, 1) := dk_42 (dk_at dksX6_beginNow_1 22 rfl rfl)
theorem dX6_beginNow_47 : decode cX6_beginNow 47 = .ok (.getfield 269, 3) := dk_180 1 13 (dk_at dksX6_beginNow_2 0 rfl rfl)
theorem dX6_beginNow_50 : decode cX6_beginNow 50 = .ok (.iconst 0, 1) := dk_3 (dk_at dksX6_beginNow_2 3 rfl rfl)
theorem dX6_beginNow_51 : decode cX6_beginNow 51 = .ok (.iload_n 2, 1) := dk_28 (dk_at dksX6_beginNow_2 4 rfl rfl)
theorem dX6_beginNow_52 : decode cX6_beginNow 52 = .ok (.iadd, 1) := dk_96 (dk_at dksX6_beginNow_2 5 rfl rfl)
theorem dX6_beginNow_53 : decode cX6_beginNow 53 = .ok (.aload_n 0, 1) := dk_42 (dk_at dksX6_beginNow_2 6 rfl rfl)
theorem dX6_beginNow_54 : decode cX6_beginNow 54 = .ok (.getfield 245, 3) := dk_180 0 245 (dk_at dksX6_beginNow_2 7 rfl rfl)
theorem dX6_beginNow_57 : decode cX6_beginNow 57 = .ok (.iconst 0, 1) := dk_3 (dk_at dksX6_beginNow_2 10 rfl rfl)
theorem dX6_beginNow_58 : decode cX6_beginNow 58 = .ok (.iaload, 1) := dk_46 (dk_at dksX6_beginNow_2 11 rfl rfl)
theorem dX6_beginNow_59 : decode cX6_beginNow 59 = .ok (.aload_n 0, 1) := dk_42 (dk_at dksX6_beginNow_2 12 rfl rfl)
theorem dX6_beginNow_60 : decode cX6_beginNow 60 = .ok (.getfield 248, 3) := dk_180 0 248 (dk_at dksX6_beginNow_2 13 rfl rfl)
theorem dX6_beginNow_63 : decode cX6_beginNow 63 = .ok (.iload_n 2, 1) := dk_28 (dk_at dksX6_beginNow_2 16 rfl rfl)
theorem dX6_beginNow_64 : decode cX6_beginNow 64 = .ok (.iaload, 1) := dk_46 (dk_at dksX6_beginNow_2 17 rfl rfl)
theorem dX6_beginNow_65 : decode cX6_beginNow 65 = .ok (.iadd, 1) := dk_96 (dk_at dksX6_beginNow_2 18 rfl rfl)
theorem dX6_beginNow_66 : decode cX6_beginNow 66 = .ok (.iastore, 1) := dk_79 (dk_at dksX6_beginNow_2 19 rfl rfl)
theorem dX6_beginNow_67 : decode cX6_beginNow 67 = .ok (.aload_n 0, 1) := dk_42 (dk_at dksX6_beginNow_2 20 rfl rfl)
theorem dX6_beginNow_68 : decode cX6_beginNow 68 = .ok (.getfield 269, 3) := dk_180 1 13 (dk_at dksX6_beginNow_2 21 rfl rfl)
theorem dX6_beginNow_71 : decode cX6_beginNow 71 = .ok (.bipush 64, 2) := dk_16 64 (dk_at dksX6_beginNow_3 0 rfl rfl)
theorem dX6_beginNow_73 : decode cX6_beginNow 73 = .ok (.iload_n 2, 1) := dk_28 (dk_at dksX6_beginNow_3 2 rfl rfl)
theorem dX6_beginNow_74 : decode cX6_beginNow 74 = .ok (.iadd, 1) := dk_96 (dk_at dksX6_beginNow_3 3 rfl rfl)
theorem dX6_beginNow_75 : decode cX6_beginNow 75 = .ok (.aload_n 0, 1) := dk_42 (dk_at dksX6_beginNow_3 4 rfl rfl)
theorem dX6_beginNow_76 : decode cX6_beginNow 76 = .ok (.getfield 245, 3) := dk_180 0 245 (dk_at dksX6_beginNow_3 5 rfl rfl)
theorem dX6_beginNow_79 : decode cX6_beginNow 79 = .ok (.iconst 3, 1) := dk_6 (dk_at dksX6_beginNow_3 8 rfl rfl)
theorem dX6_beginNow_80 : decode cX6_beginNow 80 = .ok (.iaload, 1) := dk_46 (dk_at dksX6_beginNow_3 9 rfl rfl)
theorem dX6_beginNow_81 : decode cX6_beginNow 81 = .ok (.iastore, 1) := dk_79 (dk_at dksX6_beginNow_3 10 rfl rfl)
theorem dX6_beginNow_82 : decode cX6_beginNow 82 = .ok (.aload_n 0, 1) := dk_42 (dk_at dksX6_beginNow_3 11 rfl rfl)
theorem dX6_beginNow_83 : decode cX6_beginNow 83 = .ok (.getfield 269, 3) := dk_180 1 13 (dk_at dksX6_beginNow_3 12 rfl rfl)
theorem dX6_beginNow_86 : decode cX6_beginNow 86 = .ok (.sipush 192, 3) := dk_17 0 192 (dk_at dksX6_beginNow_3 15 rfl rfl)
theorem dX6_beginNow_89 : decode cX6_beginNow 89 = .ok (.iload_n 2, 1) := dk_28 (dk_at dksX6_beginNow_3 18 rfl rfl)
theorem dX6_beginNow_90 : decode cX6_beginNow 90 = .ok (.iadd, 1) := dk_96 (dk_at dksX6_beginNow_3 19 rfl rfl)
theorem dX6_beginNow_91 : decode cX6_beginNow 91 = .ok (.aload_n 0, 1) := dk_42 (dk_at dksX6_beginNow_3 20 rfl rfl)
theorem dX6_beginNow_92 : decode cX6_beginNow 92 = .ok (.getfield 253, 3) := dk_180 0 253 (dk_at dksX6_beginNow_3 21 rfl rfl)
theorem dX6_beginNow_95 : decode cX6_beginNow 95 = .ok (.iload_n 2, 1) := dk_28 (dk_at dksX6_beginNow_4 0 rfl rfl)
theorem dX6_beginNow_96 : decode cX6_beginNow 96 = .ok (.baload, 1) := dk_51 (dk_at dksX6_beginNow_4 1 rfl rfl)
theorem dX6_beginNow_97 : decode cX6_beginNow 97 = .ok (.ifCond .eq 7, 3) := dk_153 0 7 (dk_at dksX6_beginNow_4 2 rfl rfl)
theorem dX6_beginNow_100 : decode cX6_beginNow 100 = .ok (.iconst 1, 1) := dk_4 (dk_at dksX6_beginNow_4 5 rfl rfl)
theorem dX6_beginNow_101 : decode cX6_beginNow 101 = .ok (.goto 4, 3) := dk_167 0 4 (dk_at dksX6_beginNow_4 6 rfl rfl)
theorem dX6_beginNow_104 : decode cX6_beginNow 104 = .ok (.iconst 0, 1) := dk_3 (dk_at dksX6_beginNow_4 9 rfl rfl)
theorem dX6_beginNow_105 : decode cX6_beginNow 105 = .ok (.iastore, 1) := dk_79 (dk_at dksX6_beginNow_4 10 rfl rfl)
theorem dX6_beginNow_106 : decode cX6_beginNow 106 = .ok (.iinc 2 1, 3) := dk_132 2 1 (dk_at dksX6_beginNow_4 11 rfl rfl)
theorem dX6_beginNow_109 : decode cX6_beginNow 109 = .ok (.goto (-76), 3) := dk_167 255 180 (dk_at dksX6_beginNow_4 14 rfl rfl)
theorem dX6_beginNow_112 : decode cX6_beginNow 112 = .ok (.iconst 0, 1) := dk_3 (dk_at dksX6_beginNow_4 17 rfl rfl)
theorem dX6_beginNow_113 : decode cX6_beginNow 113 = .ok (.istore_n 2, 1) := dk_61 (dk_at dksX6_beginNow_4 18 rfl rfl)
theorem dX6_beginNow_114 : decode cX6_beginNow 114 = .ok (.iload_n 2, 1) := dk_28 (dk_at dksX6_beginNow_4 19 rfl rfl)
theorem dX6_beginNow_115 : decode cX6_beginNow 115 = .ok (.aload_n 0, 1) := dk_42 (dk_at dksX6_beginNow_4 20 rfl rfl)
theorem dX6_beginNow_116 : decode cX6_beginNow 116 = .ok (.getfield 311, 3) := dk_180 1 55 (dk_at dksX6_beginNow_4 21 rfl rfl)
theorem dX6_beginNow_119 : decode cX6_beginNow 119 = .ok (.if_icmp .ge 22, 3) := dk_162 0 22 (dk_at dksX6_beginNow_5 0 rfl rfl)
theorem dX6_beginNow_122 : decode cX6_beginNow 122 = .ok (.aload_n 0, 1) := dk_42 (dk_at dksX6_beginNow_5 3 rfl rfl)
theorem dX6_beginNow_123 : decode cX6_beginNow 123 = .ok (.getfield 269, 3) := dk_180 1 13 (dk_at dksX6_beginNow_5 4 rfl rfl)
theorem dX6_beginNow_126 : decode cX6_beginNow 126 = .ok (.aload_n 0, 1) := dk_42 (dk_at dksX6_beginNow_5 7 rfl rfl)
theorem dX6_beginNow_127 : decode cX6_beginNow 127 = .ok (.getfield 250, 3) := dk_180 0 250 (dk_at dksX6_beginNow_5 8 rfl rfl)
theorem dX6_beginNow_130 : decode cX6_beginNow 130 = .ok (.iload_n 2, 1) := dk_28 (dk_at dksX6_beginNow_5 11 rfl rfl)
theorem dX6_beginNow_131 : decode cX6_beginNow 131 = .ok (.iaload, 1) := dk_46 (dk_at dksX6_beginNow_5 12 rfl rfl)
theorem dX6_beginNow_132 : decode cX6_beginNow 132 = .ok (.invokestatic 314, 3) := dk_184 1 58 (dk_at dksX6_beginNow_5 13 rfl rfl)
theorem dX6_beginNow_135 : decode cX6_beginNow 135 = .ok (.iinc 2 1, 3) := dk_132 2 1 (dk_at dksX6_beginNow_5 16 rfl rfl)
theorem dX6_beginNow_138 : decode cX6_beginNow 138 = .ok (.goto (-24), 3) := dk_167 255 232 (dk_at dksX6_beginNow_5 19 rfl rfl)
theorem dX6_beginNow_141 : decode cX6_beginNow 141 = .ok (.aload_n 0, 1) := dk_42 (dk_at dksX6_beginNow_5 22 rfl rfl)
theorem dX6_beginNow_142 : decode cX6_beginNow 142 = .ok (.getfield 269, 3) := dk_180 1 13 (dk_at dksX6_beginNow_6 0 rfl rfl)
theorem dX6_beginNow_145 : decode cX6_beginNow 145 = .ok (.sipush 275, 3) := dk_17 1 19 (dk_at dksX6_beginNow_6 3 rfl rfl)
theorem dX6_beginNow_148 : decode cX6_beginNow 148 = .ok (.iconst (-1), 1) := dk_2 (dk_at dksX6_beginNow_6 6 rfl rfl)
theorem dX6_beginNow_149 : decode cX6_beginNow 149 = .ok (.iastore, 1) := dk_79 (dk_at dksX6_beginNow_6 7 rfl rfl)
theorem dX6_beginNow_150 : decode cX6_beginNow 150 = .ok (.aload_n 0, 1) := dk_42 (dk_at dksX6_beginNow_6 8 rfl rfl)
theorem dX6_beginNow_151 : decode cX6_beginNow 151 = .ok (.getfield 269, 3) := dk_180 1 13 (dk_at dksX6_beginNow_6 9 rfl rfl)
theorem dX6_beginNow_154 : decode cX6_beginNow 154 = .ok (.sipush 288, 3) := dk_17 1 32 (dk_at dksX6_beginNow_6 12 rfl rfl)
theorem dX6_beginNow_157 : decode cX6_beginNow 157 = .ok (.iload_n 1, 1) := dk_27 (dk_at dksX6_beginNow_6 15 rfl rfl)
theorem dX6_beginNow_158 : decode cX6_beginNow 158 = .ok (.iastore, 1) := dk_79 (dk_at dksX6_beginNow_6 16 rfl rfl)
theorem dX6_beginNow_159 : decode cX6_beginNow 159 = .ok (.return_, 1) := dk_177 (dk_at dksX6_beginNow_6 17 rfl rfl)
abbrev cX6_putFlag : ByteArray := prog_16_method_34_code
def yX6_putFlag : MethodName := ⟨RX6, "putFlag", "([II)V"⟩
def dkwX6_putFlag_1 : List UInt8 := [46, 79, 42, 17, 1, 8, 28, 96, 2, 79, 42, 17, 1, 12, 92, 46, 4, 96, 79, 177]
abbrev dktX6_putFlag_1 : List UInt8 := dkwX6_putFlag_1 ++ []
def dkwX6_putFlag_0 : List UInt8 := [42, 17, 1, 12, 46, 61, 42, 17, 1, 0, 28, 96, 27, 79, 42, 17, 1, 4, 28, 96, 42, 3, 27, 96]
abbrev dktX6_putFlag_0 : List UInt8 := dkwX6_putFlag_0 ++ dktX6_putFlag_1
theorem dksX6_putFlag_0 : cX6_putFlag.data.toList.drop 0 = dktX6_putFlag_0 := by decide +kernel
theorem dksX6_putFlag_1 : cX6_putFlag.data.toList.drop 24 = dktX6_putFlag_1 := dk_seg dksX6_putFlag_0 24 rfl rfl
theorem dX6_putFlag_0 : decode cX6_putFlag 0 = .ok (.aload_n 0, 1) := dk_42 (dk_at dksX6_putFlag_0 0 rfl rfl)
theorem dX6_putFlag_1 : decode cX6_putFlag 1 = .ok (.sipush 268, 3) := dk_17 1 12 (dk_at dksX6_putFlag_0 1 rfl rfl)
theorem dX6_putFlag_4 : decode cX6_putFlag 4 = .ok (.iaload, 1) := dk_46 (dk_at dksX6_putFlag_0 4 rfl rfl)
theorem dX6_putFlag_5 : decode cX6_putFlag 5 = .ok (.istore_n 2, 1) := dk_61 (dk_at dksX6_putFlag_0 5 rfl rfl)
theorem dX6_putFlag_6 : decode cX6_putFlag 6 = .ok (.aload_n 0, 1) := dk_42 (dk_at dksX6_putFlag_0 6 rfl rfl)
theorem dX6_putFlag_7 : decode cX6_putFlag 7 = .ok (.sipush 256, 3) := dk_17 1 0 (dk_at dksX6_putFlag_0 7 rfl rfl)
theorem dX6_putFlag_10 : decode cX6_putFlag 10 = .ok (.iload_n 2, 1) := dk_28 (dk_at dksX6_putFlag_0 10 rfl rfl)
theorem dX6_putFlag_11 : decode cX6_putFlag 11 = .ok (.iadd, 1) := dk_96 (dk_at dksX6_putFlag_0 11 rfl rfl)
theorem dX6_putFlag_12 : decode cX6_putFlag 12 = .ok (.iload_n 1, 1) := dk_27 (dk_at dksX6_putFlag_0 12 rfl rfl)
theorem dX6_putFlag_13 : decode cX6_putFlag 13 = .ok (.iastore, 1) := dk_79 (dk_at dksX6_putFlag_0 13 rfl rfl)
theorem dX6_putFlag_14 : decode cX6_putFlag 14 = .ok (.aload_n 0, 1) := dk_42 (dk_at dksX6_putFlag_0 14 rfl rfl)
theorem dX6_putFlag_15 : decode cX6_putFlag 15 = .ok (.sipush 260, 3) := dk_17 1 4 (dk_at dksX6_putFlag_0 15 rfl rfl)
theorem dX6_putFlag_18 : decode cX6_putFlag 18 = .ok (.iload_n 2, 1) := dk_28 (dk_at dksX6_putFlag_0 18 rfl rfl)
theorem dX6_putFlag_19 : decode cX6_putFlag 19 = .ok (.iadd, 1) := dk_96 (dk_at dksX6_putFlag_0 19 rfl rfl)
theorem dX6_putFlag_20 : decode cX6_putFlag 20 = .ok (.aload_n 0, 1) := dk_42 (dk_at dksX6_putFlag_0 20 rfl rfl)
theorem dX6_putFlag_21 : decode cX6_putFlag 21 = .ok (.iconst 0, 1) := dk_3 (dk_at dksX6_putFlag_0 21 rfl rfl)
theorem dX6_putFlag_22 : decode cX6_putFlag 22 = .ok (.iload_n 1, 1) := dk_27 (dk_at dksX6_putFlag_0 22 rfl rfl)
theorem dX6_putFlag_23 : decode cX6_putFlag 23 = .ok (.iadd, 1) := dk_96 (dk_at dksX6_putFlag_0 23 rfl rfl)
theorem dX6_putFlag_24 : decode cX6_putFlag 24 = .ok (.iaload, 1) := dk_46 (dk_at dksX6_putFlag_1 0 rfl rfl)
theorem dX6_putFlag_25 : decode cX6_putFlag 25 = .ok (.iastore, 1) := dk_79 (dk_at dksX6_putFlag_1 1 rfl rfl)
theorem dX6_putFlag_26 : decode cX6_putFlag 26 = .ok (.aload_n 0, 1) := dk_42 (dk_at dksX6_putFlag_1 2 rfl rfl)
theorem dX6_putFlag_27 : decode cX6_putFlag 27 = .ok (.sipush 264, 3) := dk_17 1 8 (dk_at dksX6_putFlag_1 3 rfl rfl)
theorem dX6_putFlag_30 : decode cX6_putFlag 30 = .ok (.iload_n 2, 1) := dk_28 (dk_at dksX6_putFlag_1 6 rfl rfl)
theorem dX6_putFlag_31 : decode cX6_putFlag 31 = .ok (.iadd, 1) := dk_96 (dk_at dksX6_putFlag_1 7 rfl rfl)
theorem dX6_putFlag_32 : decode cX6_putFlag 32 = .ok (.iconst (-1), 1) := dk_2 (dk_at dksX6_putFlag_1 8 rfl rfl)
theorem dX6_putFlag_33 : decode cX6_putFlag 33 = .ok (.iastore, 1) := dk_79 (dk_at dksX6_putFlag_1 9 rfl rfl)
theorem dX6_putFlag_34 : decode cX6_putFlag 34 = .ok (.aload_n 0, 1) := dk_42 (dk_at dksX6_putFlag_1 10 rfl rfl)
theorem dX6_putFlag_35 : decode cX6_putFlag 35 = .ok (.sipush 268, 3) := dk_17 1 12 (dk_at dksX6_putFlag_1 11 rfl rfl)
theorem dX6_putFlag_38 : decode cX6_putFlag 38 = .ok (.dup2, 1) := dk_92 (dk_at dksX6_putFlag_1 14 rfl rfl)
theorem dX6_putFlag_39 : decode cX6_putFlag 39 = .ok (.iaload, 1) := dk_46 (dk_at dksX6_putFlag_1 15 rfl rfl)
theorem dX6_putFlag_40 : decode cX6_putFlag 40 = .ok (.iconst 1, 1) := dk_4 (dk_at dksX6_putFlag_1 16 rfl rfl)
theorem dX6_putFlag_41 : decode cX6_putFlag 41 = .ok (.iadd, 1) := dk_96 (dk_at dksX6_putFlag_1 17 rfl rfl)
theorem dX6_putFlag_42 : decode cX6_putFlag 42 = .ok (.iastore, 1) := dk_79 (dk_at dksX6_putFlag_1 18 rfl rfl)
theorem dX6_putFlag_43 : decode cX6_putFlag 43 = .ok (.return_, 1) := dk_177 (dk_at dksX6_putFlag_1 19 rfl rfl)
abbrev cX6_feed : ByteArray := prog_16_method_35_code
def yX6_feed : MethodName := ⟨RX6, "feed", "(IIIII)I"⟩
def dkwX6_feed_2 : List UInt8 := [172]
abbrev dktX6_feed_2 : List UInt8 := dkwX6_feed_2 ++ []
def dkwX6_feed_1 : List UInt8 := [182, 1, 62, 42, 29, 182, 1, 62, 42, 21, 4, 182, 1, 62, 42, 21, 5, 182, 1, 62, 42, 180, 0, 67]
abbrev dktX6_feed_1 : List UInt8 := dkwX6_feed_1 ++ dktX6_feed_2
def dkwX6_feed_0 : List UInt8 := [42, 180, 0, 67, 16, 20, 96, 17, 3, 132, 164, 0, 6, 16, 253, 172, 42, 27, 182, 1, 62, 42, 28]
abbrev dktX6_feed_0 : List UInt8 := dkwX6_feed_0 ++ dktX6_feed_1
theorem dksX6_feed_0 : cX6_feed.data.toList.drop 0 = dktX6_feed_0 := by decide +kernel
theorem dksX6_feed_1 : cX6_feed.data.toList.drop 23 = dktX6_feed_1 := dk_seg dksX6_feed_0 23 rfl rfl
theorem dksX6_feed_2 : cX6_feed.data.toList.drop 47 = dktX6_feed_2 := dk_seg dksX6_feed_1 24 rfl rfl
theorem dX6_feed_0 : decode cX6_feed 0 = .ok (.aload_n 0, 1) := dk_42 (dk_at dksX6_feed_0 0 rfl rfl)
theorem dX6_feed_1 : decode cX6_feed 1 = .ok (.getfield 67, 3) := dk_180 0 67 (dk_at dksX6_feed_0 1 rfl rfl)
theorem dX6_feed_4 : decode cX6_feed 4 = .ok (.bipush 20, 2) := dk_16 20 (dk_at dksX6_feed_0 4 rfl rfl)
theorem dX6_feed_6 : decode cX6_feed 6 = .ok (.iadd, 1) := dk_96 (dk_at dksX6_feed_0 6 rfl rfl)
theorem dX6_feed_7 : decode cX6_feed 7 = .ok (.sipush 900, 3) := dk_17 3 132 (dk_at dksX6_feed_0 7 rfl rfl)
theorem dX6_feed_10 : decode cX6_feed 10 = .ok (.if_icmp .le 6, 3) := dk_164 0 6 (dk_at dksX6_feed_0 10 rfl rfl)
theorem dX6_feed_13 : decode cX6_feed 13 = .ok (.bipush (-3), 2) := dk_16 253 (dk_at dksX6_feed_0 13 rfl rfl)
theorem dX6_feed_15 : decode cX6_feed 15 = .ok (.ireturn, 1) := dk_172 (dk_at dksX6_feed_0 15 rfl rfl)
theorem dX6_feed_16 : decode cX6_feed 16 = .ok (.aload_n 0, 1) := dk_42 (dk_at dksX6_feed_0 16 rfl rfl)
theorem dX6_feed_17 : decode cX6_feed 17 = .ok (.iload_n 1, 1) := dk_27 (dk_at dksX6_feed_0 17 rfl rfl)
theorem dX6_feed_18 : decode cX6_feed 18 = .ok (.invokevirtual 318, 3) := dk_182 1 62 (dk_at dksX6_feed_0 18 rfl rfl)
theorem dX6_feed_21 : decode cX6_feed 21 = .ok (.aload_n 0, 1) := dk_42 (dk_at dksX6_feed_0 21 rfl rfl)
theorem dX6_feed_22 : decode cX6_feed 22 = .ok (.iload_n 2, 1) := dk_28 (dk_at dksX6_feed_0 22 rfl rfl)
theorem dX6_feed_23 : decode cX6_feed 23 = .ok (.invokevirtual 318, 3) := dk_182 1 62 (dk_at dksX6_feed_1 0 rfl rfl)
theorem dX6_feed_26 : decode cX6_feed 26 = .ok (.aload_n 0, 1) := dk_42 (dk_at dksX6_feed_1 3 rfl rfl)
theorem dX6_feed_27 : decode cX6_feed 27 = .ok (.iload_n 3, 1) := dk_29 (dk_at dksX6_feed_1 4 rfl rfl)
theorem dX6_feed_28 : decode cX6_feed 28 = .ok (.invokevirtual 318, 3) := dk_182 1 62 (dk_at dksX6_feed_1 5 rfl rfl)
theorem dX6_feed_31 : decode cX6_feed 31 = .ok (.aload_n 0, 1) := dk_42 (dk_at dksX6_feed_1 8 rfl rfl)
theorem dX6_feed_32 : decode cX6_feed 32 = .ok (.iload 4, 2) := dk_21 4 (dk_at dksX6_feed_1 9 rfl rfl)
theorem dX6_feed_34 : decode cX6_feed 34 = .ok (.invokevirtual 318, 3) := dk_182 1 62 (dk_at dksX6_feed_1 11 rfl rfl)
theorem dX6_feed_37 : decode cX6_feed 37 = .ok (.aload_n 0, 1) := dk_42 (dk_at dksX6_feed_1 14 rfl rfl)
theorem dX6_feed_38 : decode cX6_feed 38 = .ok (.iload 5, 2) := dk_21 5 (dk_at dksX6_feed_1 15 rfl rfl)
theorem dX6_feed_40 : decode cX6_feed 40 = .ok (.invokevirtual 318, 3) := dk_182 1 62 (dk_at dksX6_feed_1 17 rfl rfl)
theorem dX6_feed_43 : decode cX6_feed 43 = .ok (.aload_n 0, 1) := dk_42 (dk_at dksX6_feed_1 20 rfl rfl)
theorem dX6_feed_44 : decode cX6_feed 44 = .ok (.getfield 67, 3) := dk_180 0 67 (dk_at dksX6_feed_1 21 rfl rfl)
theorem dX6_feed_47 : decode cX6_feed 47 = .ok (.ireturn, 1) := dk_172 (dk_at dksX6_feed_2 0 rfl rfl)
abbrev cX6_putFour : ByteArray := prog_16_method_36_code
def yX6_putFour : MethodName := ⟨RX6, "putFour", "(I)V"⟩
def dkwX6_putFour_1 : List UInt8 := [180, 0, 67, 4, 96, 181, 0, 67, 132, 2, 248, 167, 255, 226, 177]
abbrev dktX6_putFour_1 : List UInt8 := dkwX6_putFour_1 ++ []
def dkwX6_putFour_0 : List UInt8 := [16, 24, 61, 28, 155, 0, 32, 42, 180, 0, 16, 42, 180, 0, 67, 27, 28, 122, 145, 84, 42, 89]
abbrev dktX6_putFour_0 : List UInt8 := dkwX6_putFour_0 ++ dktX6_putFour_1
theorem dksX6_putFour_0 : cX6_putFour.data.toList.drop 0 = dktX6_putFour_0 := by decide +kernel
theorem dksX6_putFour_1 : cX6_putFour.data.toList.drop 22 = dktX6_putFour_1 := dk_seg dksX6_putFour_0 22 rfl rfl
theorem dX6_putFour_0 : decode cX6_putFour 0 = .ok (.bipush 24, 2) := dk_16 24 (dk_at dksX6_putFour_0 0 rfl rfl)
theorem dX6_putFour_2 : decode cX6_putFour 2 = .ok (.istore_n 2, 1) := dk_61 (dk_at dksX6_putFour_0 2 rfl rfl)
theorem dX6_putFour_3 : decode cX6_putFour 3 = .ok (.iload_n 2, 1) := dk_28 (dk_at dksX6_putFour_0 3 rfl rfl)
theorem dX6_putFour_4 : decode cX6_putFour 4 = .ok (.ifCond .lt 32, 3) := dk_155 0 32 (dk_at dksX6_putFour_0 4 rfl rfl)
theorem dX6_putFour_7 : decode cX6_putFour 7 = .ok (.aload_n 0, 1) := dk_42 (dk_at dksX6_putFour_0 7 rfl rfl)
theorem dX6_putFour_8 : decode cX6_putFour 8 = .ok (.getfield 16, 3) := dk_180 0 16 (dk_at dksX6_putFour_0 8 rfl rfl)
theorem dX6_putFour_11 : decode cX6_putFour 11 = .ok (.aload_n 0, 1) := dk_42 (dk_at dksX6_putFour_0 11 rfl rfl)
theorem dX6_putFour_12 : decode cX6_putFour 12 = .ok (.getfield 67, 3) := dk_180 0 67 (dk_at dksX6_putFour_0 12 rfl rfl)
theorem dX6_putFour_15 : decode cX6_putFour 15 = .ok (.iload_n 1, 1) := dk_27 (dk_at dksX6_putFour_0 15 rfl rfl)
theorem dX6_putFour_16 : decode cX6_putFour 16 = .ok (.iload_n 2, 1) := dk_28 (dk_at dksX6_putFour_0 16 rfl rfl)
theorem dX6_putFour_17 : decode cX6_putFour 17 = .ok (.ishr, 1) := dk_122 (dk_at dksX6_putFour_0 17 rfl rfl)
theorem dX6_putFour_18 : decode cX6_putFour 18 = .ok (.i2b, 1) := dk_145 (dk_at dksX6_putFour_0 18 rfl rfl)
theorem dX6_putFour_19 : decode cX6_putFour 19 = .ok (.bastore, 1) := dk_84 (dk_at dksX6_putFour_0 19 rfl rfl)
theorem dX6_putFour_20 : decode cX6_putFour 20 = .ok (.aload_n 0, 1) := dk_42 (dk_at dksX6_putFour_0 20 rfl rfl)
theorem dX6_putFour_21 : decode cX6_putFour 21 = .ok (.dup, 1) := dk_89 (dk_at dksX6_putFour_0 21 rfl rfl)
theorem dX6_putFour_22 : decode cX6_putFour 22 = .ok (.getfield 67, 3) := dk_180 0 67 (dk_at dksX6_putFour_1 0 rfl rfl)
theorem dX6_putFour_25 : decode cX6_putFour 25 = .ok (.iconst 1, 1) := dk_4 (dk_at dksX6_putFour_1 3 rfl rfl)
theorem dX6_putFour_26 : decode cX6_putFour 26 = .ok (.iadd, 1) := dk_96 (dk_at dksX6_putFour_1 4 rfl rfl)
theorem dX6_putFour_27 : decode cX6_putFour 27 = .ok (.putfield 67, 3) := dk_181 0 67 (dk_at dksX6_putFour_1 5 rfl rfl)
theorem dX6_putFour_30 : decode cX6_putFour 30 = .ok (.iinc 2 (-8), 3) := dk_132 2 248 (dk_at dksX6_putFour_1 8 rfl rfl)
theorem dX6_putFour_33 : decode cX6_putFour 33 = .ok (.goto (-30), 3) := dk_167 255 226 (dk_at dksX6_putFour_1 11 rfl rfl)
theorem dX6_putFour_36 : decode cX6_putFour 36 = .ok (.return_, 1) := dk_177 (dk_at dksX6_putFour_1 14 rfl rfl)
abbrev cX6_end : ByteArray := prog_16_method_37_code
def yX6_end : MethodName := ⟨RX6, "end", "(I)I"⟩
def dkwX6_end_0 : List UInt8 := [27, 133, 9, 42, 180, 0, 67, 133, 184, 0, 52, 154, 0, 5, 2, 172, 42, 27, 181, 0, 67, 27, 172]
abbrev dktX6_end_0 : List UInt8 := dkwX6_end_0 ++ []
theorem dksX6_end_0 : cX6_end.data.toList.drop 0 = dktX6_end_0 := by decide +kernel
theorem dX6_end_0 : decode cX6_end 0 = .ok (.iload_n 1, 1) := dk_27 (dk_at dksX6_end_0 0 rfl rfl)
theorem dX6_end_1 : decode cX6_end 1 = .ok (.i2l, 1) := dk_133 (dk_at dksX6_end_0 1 rfl rfl)
theorem dX6_end_2 : decode cX6_end 2 = .ok (.lconst 0, 1) := dk_9 (dk_at dksX6_end_0 2 rfl rfl)
theorem dX6_end_3 : decode cX6_end 3 = .ok (.aload_n 0, 1) := dk_42 (dk_at dksX6_end_0 3 rfl rfl)
theorem dX6_end_4 : decode cX6_end 4 = .ok (.getfield 67, 3) := dk_180 0 67 (dk_at dksX6_end_0 4 rfl rfl)
theorem dX6_end_7 : decode cX6_end 7 = .ok (.i2l, 1) := dk_133 (dk_at dksX6_end_0 7 rfl rfl)
theorem dX6_end_8 : decode cX6_end 8 = .ok (.invokestatic 52, 3) := dk_184 0 52 (dk_at dksX6_end_0 8 rfl rfl)
theorem dX6_end_11 : decode cX6_end 11 = .ok (.ifCond .ne 5, 3) := dk_154 0 5 (dk_at dksX6_end_0 11 rfl rfl)
theorem dX6_end_14 : decode cX6_end 14 = .ok (.iconst (-1), 1) := dk_2 (dk_at dksX6_end_0 14 rfl rfl)
theorem dX6_end_15 : decode cX6_end 15 = .ok (.ireturn, 1) := dk_172 (dk_at dksX6_end_0 15 rfl rfl)
theorem dX6_end_16 : decode cX6_end 16 = .ok (.aload_n 0, 1) := dk_42 (dk_at dksX6_end_0 16 rfl rfl)
theorem dX6_end_17 : decode cX6_end 17 = .ok (.iload_n 1, 1) := dk_27 (dk_at dksX6_end_0 17 rfl rfl)
theorem dX6_end_18 : decode cX6_end 18 = .ok (.putfield 67, 3) := dk_181 0 67 (dk_at dksX6_end_0 18 rfl rfl)
theorem dX6_end_21 : decode cX6_end 21 = .ok (.iload_n 1, 1) := dk_27 (dk_at dksX6_end_0 21 rfl rfl)
theorem dX6_end_22 : decode cX6_end 22 = .ok (.ireturn, 1) := dk_172 (dk_at dksX6_end_0 22 rfl rfl)
abbrev cX6_in : ByteArray := prog_16_method_1_code
def yX6_in : MethodName := ⟨RX6, "in", "(JJJ)Z"⟩
def dkwX6_in_0 : List UInt8 := [30, 32, 148, 155, 0, 14, 30, 22, 4, 148, 157, 0, 7, 4, 167, 0, 4, 3, 172]
abbrev dktX6_in_0 : List UInt8 := dkwX6_in_0 ++ []
theorem dksX6_in_0 : cX6_in.data.toList.drop 0 = dktX6_in_0 := by decide +kernel
theorem dX6_in_0 : decode cX6_in 0 = .ok (.lload_n 0, 1) := dk_30 (dk_at dksX6_in_0 0 rfl rfl)
theorem dX6_in_1 : decode cX6_in 1 = .ok (.lload_n 2, 1) := dk_32 (dk_at dksX6_in_0 1 rfl rfl)
theorem dX6_in_2 : decode cX6_in 2 = .ok (.lcmp, 1) := dk_148 (dk_at dksX6_in_0 2 rfl rfl)
theorem dX6_in_3 : decode cX6_in 3 = .ok (.ifCond .lt 14, 3) := dk_155 0 14 (dk_at dksX6_in_0 3 rfl rfl)
theorem dX6_in_6 : decode cX6_in 6 = .ok (.lload_n 0, 1) := dk_30 (dk_at dksX6_in_0 6 rfl rfl)
theorem dX6_in_7 : decode cX6_in 7 = .ok (.lload 4, 2) := dk_22 4 (dk_at dksX6_in_0 7 rfl rfl)
theorem dX6_in_9 : decode cX6_in 9 = .ok (.lcmp, 1) := dk_148 (dk_at dksX6_in_0 9 rfl rfl)
theorem dX6_in_10 : decode cX6_in 10 = .ok (.ifCond .gt 7, 3) := dk_157 0 7 (dk_at dksX6_in_0 10 rfl rfl)
theorem dX6_in_13 : decode cX6_in 13 = .ok (.iconst 1, 1) := dk_4 (dk_at dksX6_in_0 13 rfl rfl)
theorem dX6_in_14 : decode cX6_in 14 = .ok (.goto 4, 3) := dk_167 0 4 (dk_at dksX6_in_0 14 rfl rfl)
theorem dX6_in_17 : decode cX6_in 17 = .ok (.iconst 0, 1) := dk_3 (dk_at dksX6_in_0 17 rfl rfl)
theorem dX6_in_18 : decode cX6_in 18 = .ok (.ireturn, 1) := dk_172 (dk_at dksX6_in_0 18 rfl rfl)
abbrev cX6_beach : ByteArray := prog_16_method_38_code
def yX6_beach : MethodName := ⟨RX6, "beach", "()I"⟩
def dkwX6_beach_7 : List UInt8 := [180, 1, 72, 172]
abbrev dktX6_beach_7 : List UInt8 := dkwX6_beach_7 ++ []
def dkwX6_beach_6 : List UInt8 := [60, 27, 6, 162, 0, 16, 42, 180, 1, 22, 27, 3, 84, 132, 1, 1, 167, 255, 241, 42, 182, 1, 52, 42]
abbrev dktX6_beach_6 : List UInt8 := dkwX6_beach_6 ++ dktX6_beach_7
def dkwX6_beach_5 : List UInt8 := [42, 180, 0, 250, 27, 42, 180, 0, 98, 27, 46, 79, 132, 1, 1, 167, 255, 233, 42, 3, 181, 0, 225, 3]
abbrev dktX6_beach_5 : List UInt8 := dkwX6_beach_5 ++ dktX6_beach_6
def dkwX6_beach_4 : List UInt8 := [27, 42, 180, 0, 91, 27, 51, 84, 132, 1, 1, 167, 255, 223, 3, 60, 27, 42, 180, 1, 55, 162, 0, 21]
abbrev dktX6_beach_4 : List UInt8 := dkwX6_beach_4 ++ dktX6_beach_5
def dkwX6_beach_3 : List UInt8 := [3, 60, 27, 16, 64, 162, 0, 33, 42, 180, 0, 248, 27, 42, 180, 0, 83, 27, 46, 79, 42, 180, 0, 253]
abbrev dktX6_beach_3 : List UInt8 := dkwX6_beach_3 ++ dktX6_beach_4
def dkwX6_beach_2 : List UInt8 := [27, 16, 9, 162, 0, 21, 42, 180, 0, 245, 27, 42, 180, 0, 128, 27, 46, 79, 132, 1, 1, 167, 255, 235]
abbrev dktX6_beach_2 : List UInt8 := dkwX6_beach_2 ++ dktX6_beach_3
def dkwX6_beach_1 : List UInt8 := [180, 0, 76, 181, 0, 204, 42, 42, 180, 0, 95, 181, 1, 55, 42, 42, 180, 0, 131, 181, 1, 72, 3, 60]
abbrev dktX6_beach_1 : List UInt8 := dkwX6_beach_1 ++ dktX6_beach_2
def dkwX6_beach_0 : List UInt8 := [42, 182, 1, 66, 42, 182, 1, 69, 154, 0, 5, 2, 172, 42, 42, 180, 0, 73, 181, 0, 201, 42, 42]
abbrev dktX6_beach_0 : List UInt8 := dkwX6_beach_0 ++ dktX6_beach_1
theorem dksX6_beach_0 : cX6_beach.data.toList.drop 0 = dktX6_beach_0 := by decide +kernel
theorem dksX6_beach_1 : cX6_beach.data.toList.drop 23 = dktX6_beach_1 := dk_seg dksX6_beach_0 23 rfl rfl
theorem dksX6_beach_2 : cX6_beach.data.toList.drop 47 = dktX6_beach_2 := dk_seg dksX6_beach_1 24 rfl rfl
theorem dksX6_beach_3 : cX6_beach.data.toList.drop 71 = dktX6_beach_3 := dk_seg dksX6_beach_2 24 rfl rfl
theorem dksX6_beach_4 : cX6_beach.data.toList.drop 95 = dktX6_beach_4 := dk_seg dksX6_beach_3 24 rfl rfl
theorem dksX6_beach_5 : cX6_beach.data.toList.drop 119 = dktX6_beach_5 := dk_seg dksX6_beach_4 24 rfl rfl
theorem dksX6_beach_6 : cX6_beach.data.toList.drop 143 = dktX6_beach_6 := dk_seg dksX6_beach_5 24 rfl rfl
theorem dksX6_beach_7 : cX6_beach.data.toList.drop 167 = dktX6_beach_7 := dk_seg dksX6_beach_6 24 rfl rfl
theorem dX6_beach_0 : decode cX6_beach 0 = .ok (.aload_n 0, 1) := dk_42 (dk_at dksX6_beach_0 0 rfl rfl)
theorem dX6_beach_1 : decode cX6_beach 1 = .ok (.invokevirtual 322, 3) := dk_182 1 66 (dk_at dksX6_beach_0 1 rfl rfl)
theorem dX6_beach_4 : decode cX6_beach 4 = .ok (.aload_n 0, 1) := dk_42 (dk_at dksX6_beach_0 4 rfl rfl)
theorem dX6_beach_5 : decode cX6_beach 5 = .ok (.invokevirtual 325, 3) := dk_182 1 69 (dk_at dksX6_beach_0 5 rfl rfl)
theorem dX6_beach_8 : decode cX6_beach 8 = .ok (.ifCond .ne 5, 3) := dk_154 0 5 (dk_at dksX6_beach_0 8 rfl rfl)
theorem dX6_beach_11 : decode cX6_beach 11 = .ok (.iconst (-1), 1) := dk_2 (dk_at dksX6_beach_0 11 rfl rfl)
theorem dX6_beach_12 : decode cX6_beach 12 = .ok (.ireturn, 1) := dk_172 (dk_at dksX6_beach_0 12 rfl rfl)
theorem dX6_beach_13 : decode cX6_beach 13 = .ok (.aload_n 0, 1) := dk_42 (dk_at dksX6_beach_0 13 rfl rfl)
theorem dX6_beach_14 : decode cX6_beach 14 = .ok (.aload_n 0, 1) := dk_42 (dk_at dksX6_beach_0 14 rfl rfl)
theorem dX6_beach_15 : decode cX6_beach 15 = .ok (.getfield 73, 3) := dk_180 0 73 (dk_at dksX6_beach_0 15 rfl rfl)
theorem dX6_beach_18 : decode cX6_beach 18 = .ok (.putfield 201, 3) := dk_181 0 201 (dk_at dksX6_beach_0 18 rfl rfl)
theorem dX6_beach_21 : decode cX6_beach 21 = .ok (.aload_n 0, 1) := dk_42 (dk_at dksX6_beach_0 21 rfl rfl)
theorem dX6_beach_22 : decode cX6_beach 22 = .ok (.aload_n 0, 1) := dk_42 (dk_at dksX6_beach_0 22 rfl rfl)
theorem dX6_beach_23 : decode cX6_beach 23 = .ok (.getfield 76, 3) := dk_180 0 76 (dk_at dksX6_beach_1 0 rfl rfl)
theorem dX6_beach_26 : decode cX6_beach 26 = .ok (.putfield 204, 3) := dk_181 0 204 (dk_at dksX6_beach_1 3 rfl rfl)
theorem dX6_beach_29 : decode cX6_beach 29 = .ok (.aload_n 0, 1) := dk_42 (dk_at dksX6_beach_1 6 rfl rfl)
theorem dX6_beach_30 : decode cX6_beach 30 = .ok (.aload_n 0, 1) := dk_42 (dk_at dksX6_beach_1 7 rfl rfl)
theorem dX6_beach_31 : decode cX6_beach 31 = .ok (.getfield 95, 3) := dk_180 0 95 (dk_at dksX6_beach_1 8 rfl rfl)
theorem dX6_beach_34 : decode cX6_beach 34 = .ok (.putfield 311, 3) := dk_181 1 55 (dk_at dksX6_beach_1 11 rfl rfl)
theorem dX6_beach_37 : decode cX6_beach 37 = .ok (.aload_n 0, 1) := dk_42 (dk_at dksX6_beach_1 14 rfl rfl)
theorem dX6_beach_38 : decode cX6_beach 38 = .ok (.aload_n 0, 1) := dk_42 (dk_at dksX6_beach_1 15 rfl rfl)
theorem dX6_beach_39 : decode cX6_beach 39 = .ok (.getfield 131, 3) := dk_180 0 131 (dk_at dksX6_beach_1 16 rfl rfl)
theorem dX6_beach_42 : decode cX6_beach 42 = .ok (.putfield 328, 3) := dk_181 1 72 (dk_at dksX6_beach_1 19 rfl rfl)
theorem dX6_beach_45 : decode cX6_beach 45 = .ok (.iconst 0, 1) := dk_3 (dk_at dksX6_beach_1 22 rfl rfl)
theorem dX6_beach_46 : decode cX6_beach 46 = .ok (.istore_n 1, 1) := dk_60 (dk_at dksX6_beach_1 23 rfl rfl)
theorem dX6_beach_47 : decode cX6_beach 47 = .ok (.iload_n 1, 1) := dk_27 (dk_at dksX6_beach_2 0 rfl rfl)
theorem dX6_beach_48 : decode cX6_beach 48 = .ok (.bipush 9, 2) := dk_16 9 (dk_at dksX6_beach_2 1 rfl rfl)
theorem dX6_beach_50 : decode cX6_beach 50 = .ok (.if_icmp .ge 21, 3) := dk_162 0 21 (dk_at dksX6_beach_2 3 rfl rfl)
theorem dX6_beach_53 : decode cX6_beach 53 = .ok (.aload_n 0, 1) := dk_42 (dk_at dksX6_beach_2 6 rfl rfl)
theorem dX6_beach_54 : decode cX6_beach 54 = .ok (.getfield 245, 3) := dk_180 0 245 (dk_at dksX6_beach_2 7 rfl rfl)
theorem dX6_beach_57 : decode cX6_beach 57 = .ok (.iload_n 1, 1) := dk_27 (dk_at dksX6_beach_2 10 rfl rfl)
theorem dX6_beach_58 : decode cX6_beach 58 = .ok (.aload_n 0, 1) := dk_42 (dk_at dksX6_beach_2 11 rfl rfl)
theorem dX6_beach_59 : decode cX6_beach 59 = .ok (.getfield 128, 3) := dk_180 0 128 (dk_at dksX6_beach_2 12 rfl rfl)
theorem dX6_beach_62 : decode cX6_beach 62 = .ok (.iload_n 1, 1) := dk_27 (dk_at dksX6_beach_2 15 rfl rfl)
theorem dX6_beach_63 : decode cX6_beach 63 = .ok (.iaload, 1) := dk_46 (dk_at dksX6_beach_2 16 rfl rfl)
theorem dX6_beach_64 : decode cX6_beach 64 = .ok (.iastore, 1) := dk_79 (dk_at dksX6_beach_2 17 rfl rfl)
theorem dX6_beach_65 : decode cX6_beach 65 = .ok (.iinc 1 1, 3) := dk_132 1 1 (dk_at dksX6_beach_2 18 rfl rfl)
theorem dX6_beach_68 : decode cX6_beach 68 = .ok (.goto (-21), 3) := dk_167 255 235 (dk_at dksX6_beach_2 21 rfl rfl)
theorem dX6_beach_71 : decode cX6_beach 71 = .ok (.iconst 0, 1) := dk_3 (dk_at dksX6_beach_3 0 rfl rfl)
theorem dX6_beach_72 : decode cX6_beach 72 = .ok (.istore_n 1, 1) := dk_60 (dk_at dksX6_beach_3 1 rfl rfl)
theorem dX6_beach_73 : decode cX6_beach 73 = .ok (.iload_n 1, 1) := dk_27 (dk_at dksX6_beach_3 2 rfl rfl)
theorem dX6_beach_74 : decode cX6_beach 74 = .ok (.bipush 64, 2) := dk_16 64 (dk_at dksX6_beach_3 3 rfl rfl)
theorem dX6_beach_76 : decode cX6_beach 76 = .ok (.if_icmp .ge 33, 3) := dk_162 0 33 (dk_at dksX6_beach_3 5 rfl rfl)
theorem dX6_beach_79 : decode cX6_beach 79 = .ok (.aload_n 0, 1) := dk_42 (dk_at dksX6_beach_3 8 rfl rfl)
theorem dX6_beach_80 : decode cX6_beach 80 = .ok (.getfield 248, 3) := dk_180 0 248 (dk_at dksX6_beach_3 9 rfl rfl)
theorem dX6_beach_83 : decode cX6_beach 83 = .ok (.iload_n 1, 1) := dk_27 (dk_at dksX6_beach_3 12 rfl rfl)
theorem dX6_beach_84 : decode cX6_beach 84 = .ok (.aload_n 0, 1) := dk_42 (dk_at dksX6_beach_3 13 rfl rfl)
theorem dX6_beach_85 : decode cX6_beach 85 = .ok (.getfield 83, 3) := dk_180 0 83 (dk_at dksX6_beach_3 14 rfl rfl)
theorem dX6_beach_88 : decode cX6_beach 88 = .ok (.iload_n 1, 1) := dk_27 (dk_at dksX6_beach_3 17 rfl rfl)
theorem dX6_beach_89 : decode cX6_beach 89 = .ok (.iaload, 1) := dk_46 (dk_at dksX6_beach_3 18 rfl rfl)
theorem dX6_beach_90 : decode cX6_beach 90 = .ok (.iastore, 1) := dk_79 (dk_at dksX6_beach_3 19 rfl rfl)
theorem dX6_beach_91 : decode cX6_beach 91 = .ok (.aload_n 0, 1) := dk_42 (dk_at dksX6_beach_3 20 rfl rfl)
theorem dX6_beach_92 : decode cX6_beach 92 = .ok (.getfield 253, 3) := dk_180 0 253 (dk_at dksX6_beach_3 21 rfl rfl)
theorem dX6_beach_95 : decode cX6_beach 95 = .ok (.iload_n 1, 1) := dk_27 (dk_at dksX6_beach_4 0 rfl rfl)
theorem dX6_beach_96 : decode cX6_beach 96 = .ok (.aload_n 0, 1) := dk_42 (dk_at dksX6_beach_4 1 rfl rfl)
theorem dX6_beach_97 : decode cX6_beach 97 = .ok (.getfield 91, 3) := dk_180 0 91 (dk_at dksX6_beach_4 2 rfl rfl)
theorem dX6_beach_100 : decode cX6_beach 100 = .ok (.iload_n 1, 1) := dk_27 (dk_at dksX6_beach_4 5 rfl rfl)
theorem dX6_beach_101 : decode cX6_beach 101 = .ok (.baload, 1) := dk_51 (dk_at dksX6_beach_4 6 rfl rfl)
theorem dX6_beach_102 : decode cX6_beach 102 = .ok (.bastore, 1) := dk_84 (dk_at dksX6_beach_4 7 rfl rfl)
theorem dX6_beach_103 : decode cX6_beach 103 = .ok (.iinc 1 1, 3) := dk_132 1 1 (dk_at dksX6_beach_4 8 rfl rfl)
theorem dX6_beach_106 : decode cX6_beach 106 = .ok (.goto (-33), 3) := dk_167 255 223 (dk_at dksX6_beach_4 11 rfl rfl)
theorem dX6_beach_109 : decode cX6_beach 109 = .ok (.iconst 0, 1) := dk_3 (dk_at dksX6_beach_4 14 rfl rfl)
theorem dX6_beach_110 : decode cX6_beach 110 = .ok (.istore_n 1, 1) := dk_60 (dk_at dksX6_beach_4 15 rfl rfl)
theorem dX6_beach_111 : decode cX6_beach 111 = .ok (.iload_n 1, 1) := dk_27 (dk_at dksX6_beach_4 16 rfl rfl)
theorem dX6_beach_112 : decode cX6_beach 112 = .ok (.aload_n 0, 1) := dk_42 (dk_at dksX6_beach_4 17 rfl rfl)
theorem dX6_beach_113 : decode cX6_beach 113 = .ok (.getfield 311, 3) := dk_180 1 55 (dk_at dksX6_beach_4 18 rfl rfl)
theorem dX6_beach_116 : decode cX6_beach 116 = .ok (.if_icmp .ge 21, 3) := dk_162 0 21 (dk_at dksX6_beach_4 21 rfl rfl)
theorem dX6_beach_119 : decode cX6_beach 119 = .ok (.aload_n 0, 1) := dk_42 (dk_at dksX6_beach_5 0 rfl rfl)
theorem dX6_beach_120 : decode cX6_beach 120 = .ok (.getfield 250, 3) := dk_180 0 250 (dk_at dksX6_beach_5 1 rfl rfl)
theorem dX6_beach_123 : decode cX6_beach 123 = .ok (.iload_n 1, 1) := dk_27 (dk_at dksX6_beach_5 4 rfl rfl)
theorem dX6_beach_124 : decode cX6_beach 124 = .ok (.aload_n 0, 1) := dk_42 (dk_at dksX6_beach_5 5 rfl rfl)
theorem dX6_beach_125 : decode cX6_beach 125 = .ok (.getfield 98, 3) := dk_180 0 98 (dk_at dksX6_beach_5 6 rfl rfl)
theorem dX6_beach_128 : decode cX6_beach 128 = .ok (.iload_n 1, 1) := dk_27 (dk_at dksX6_beach_5 9 rfl rfl)
theorem dX6_beach_129 : decode cX6_beach 129 = .ok (.iaload, 1) := dk_46 (dk_at dksX6_beach_5 10 rfl rfl)
theorem dX6_beach_130 : decode cX6_beach 130 = .ok (.iastore, 1) := dk_79 (dk_at dksX6_beach_5 11 rfl rfl)
theorem dX6_beach_131 : decode cX6_beach 131 = .ok (.iinc 1 1, 3) := dk_132 1 1 (dk_at dksX6_beach_5 12 rfl rfl)
theorem dX6_beach_134 : decode cX6_beach 134 = .ok (.goto (-23), 3) := dk_167 255 233 (dk_at dksX6_beach_5 15 rfl rfl)
theorem dX6_beach_137 : decode cX6_beach 137 = .ok (.aload_n 0, 1) := dk_42 (dk_at dksX6_beach_5 18 rfl rfl)
theorem dX6_beach_138 : decode cX6_beach 138 = .ok (.iconst 0, 1) := dk_3 (dk_at dksX6_beach_5 19 rfl rfl)
theorem dX6_beach_139 : decode cX6_beach 139 = .ok (.putfield 225, 3) := dk_181 0 225 (dk_at dksX6_beach_5 20 rfl rfl)
theorem dX6_beach_142 : decode cX6_beach 142 = .ok (.iconst 0, 1) := dk_3 (dk_at dksX6_beach_5 23 rfl rfl)
theorem dX6_beach_143 : decode cX6_beach 143 = .ok (.istore_n 1, 1) := dk_60 (dk_at dksX6_beach_6 0 rfl rfl)
theorem dX6_beach_144 : decode cX6_beach 144 = .ok (.iload_n 1, 1) := dk_27 (dk_at dksX6_beach_6 1 rfl rfl)
theorem dX6_beach_145 : decode cX6_beach 145 = .ok (.iconst 3, 1) := dk_6 (dk_at dksX6_beach_6 2 rfl rfl)
theorem dX6_beach_146 : decode cX6_beach 146 = .ok (.if_icmp .ge 16, 3) := dk_162 0 16 (dk_at dksX6_beach_6 3 rfl rfl)
theorem dX6_beach_149 : decode cX6_beach 149 = .ok (.aload_n 0, 1) := dk_42 (dk_at dksX6_beach_6 6 rfl rfl)
theorem dX6_beach_150 : decode cX6_beach 150 = .ok (.getfield 278, 3) := dk_180 1 22 (dk_at dksX6_beach_6 7 rfl rfl)
theorem dX6_beach_153 : decode cX6_beach 153 = .ok (.iload_n 1, 1) := dk_27 (dk_at dksX6_beach_6 10 rfl rfl)
theorem dX6_beach_154 : decode cX6_beach 154 = .ok (.iconst 0, 1) := dk_3 (dk_at dksX6_beach_6 11 rfl rfl)
theorem dX6_beach_155 : decode cX6_beach 155 = .ok (.bastore, 1) := dk_84 (dk_at dksX6_beach_6 12 rfl rfl)
theorem dX6_beach_156 : decode cX6_beach 156 = .ok (.iinc 1 1, 3) := dk_132 1 1 (dk_at dksX6_beach_6 13 rfl rfl)
theorem dX6_beach_159 : decode cX6_beach 159 = .ok (.goto (-15), 3) := dk_167 255 241 (dk_at dksX6_beach_6 16 rfl rfl)
theorem dX6_beach_162 : decode cX6_beach 162 = .ok (.aload_n 0, 1) := dk_42 (dk_at dksX6_beach_6 19 rfl rfl)
theorem dX6_beach_163 : decode cX6_beach 163 = .ok (.invokevirtual 308, 3) := dk_182 1 52 (dk_at dksX6_beach_6 20 rfl rfl)
theorem dX6_beach_166 : decode cX6_beach 166 = .ok (.aload_n 0, 1) := dk_42 (dk_at dksX6_beach_6 23 rfl rfl)
theorem dX6_beach_167 : decode cX6_beach 167 = .ok (.getfield 328, 3) := dk_180 1 72 (dk_at dksX6_beach_7 0 rfl rfl)
theorem dX6_beach_170 : decode cX6_beach 170 = .ok (.ireturn, 1) := dk_172 (dk_at dksX6_beach_7 3 rfl rfl)
abbrev cX6_open : ByteArray := prog_16_method_10_code
def yX6_open : MethodName := ⟨RX6, "open", "()V"⟩
def dkwX6_open_1 : List UInt8 := [2, 181, 0, 10, 42, 182, 0, 63, 177]
abbrev dktX6_open_1 : List UInt8 := dkwX6_open_1 ++ []
def dkwX6_open_0 : List UInt8 := [42, 42, 180, 0, 67, 181, 0, 13, 42, 3, 181, 0, 67, 42, 3, 181, 0, 20, 42, 3, 181, 0, 1, 42]
abbrev dktX6_open_0 : List UInt8 := dkwX6_open_0 ++ dktX6_open_1
theorem dksX6_open_0 : cX6_open.data.toList.drop 0 = dktX6_open_0 := by decide +kernel
theorem dksX6_open_1 : cX6_open.data.toList.drop 24 = dktX6_open_1 := dk_seg dksX6_open_0 24 rfl rfl
theorem dX6_open_0 : decode cX6_open 0 = .ok (.aload_n 0, 1) := dk_42 (dk_at dksX6_open_0 0 rfl rfl)
theorem dX6_open_1 : decode cX6_open 1 = .ok (.aload_n 0, 1) := dk_42 (dk_at dksX6_open_0 1 rfl rfl)
theorem dX6_open_2 : decode cX6_open 2 = .ok (.getfield 67, 3) := dk_180 0 67 (dk_at dksX6_open_0 2 rfl rfl)
theorem dX6_open_5 : decode cX6_open 5 = .ok (.putfield 13, 3) := dk_181 0 13 (dk_at dksX6_open_0 5 rfl rfl)
theorem dX6_open_8 : decode cX6_open 8 = .ok (.aload_n 0, 1) := dk_42 (dk_at dksX6_open_0 8 rfl rfl)
theorem dX6_open_9 : decode cX6_open 9 = .ok (.iconst 0, 1) := dk_3 (dk_at dksX6_open_0 9 rfl rfl)
theorem dX6_open_10 : decode cX6_open 10 = .ok (.putfield 67, 3) := dk_181 0 67 (dk_at dksX6_open_0 10 rfl rfl)
theorem dX6_open_13 : decode cX6_open 13 = .ok (.aload_n 0, 1) := dk_42 (dk_at dksX6_open_0 13 rfl rfl)
theorem dX6_open_14 : decode cX6_open 14 = .ok (.iconst 0, 1) := dk_3 (dk_at dksX6_open_0 14 rfl rfl)
theorem dX6_open_15 : decode cX6_open 15 = .ok (.putfield 20, 3) := dk_181 0 20 (dk_at dksX6_open_0 15 rfl rfl)
theorem dX6_open_18 : decode cX6_open 18 = .ok (.aload_n 0, 1) := dk_42 (dk_at dksX6_open_0 18 rfl rfl)
theorem dX6_open_19 : decode cX6_open 19 = .ok (.iconst 0, 1) := dk_3 (dk_at dksX6_open_0 19 rfl rfl)
theorem dX6_open_20 : decode cX6_open 20 = .ok (.putfield 1, 3) := dk_181 0 1 (dk_at dksX6_open_0 20 rfl rfl)
theorem dX6_open_23 : decode cX6_open 23 = .ok (.aload_n 0, 1) := dk_42 (dk_at dksX6_open_0 23 rfl rfl)
theorem dX6_open_24 : decode cX6_open 24 = .ok (.iconst (-1), 1) := dk_2 (dk_at dksX6_open_1 0 rfl rfl)
theorem dX6_open_25 : decode cX6_open 25 = .ok (.putfield 10, 3) := dk_181 0 10 (dk_at dksX6_open_1 1 rfl rfl)
theorem dX6_open_28 : decode cX6_open 28 = .ok (.aload_n 0, 1) := dk_42 (dk_at dksX6_open_1 4 rfl rfl)
theorem dX6_open_29 : decode cX6_open 29 = .ok (.invokevirtual 63, 3) := dk_182 0 63 (dk_at dksX6_open_1 5 rfl rfl)
theorem dX6_open_32 : decode cX6_open 32 = .ok (.return_, 1) := dk_177 (dk_at dksX6_open_1 8 rfl rfl)
abbrev cX6_scan : ByteArray := prog_16_method_6_code
def yX6_scan : MethodName := ⟨RX6, "scan", "()V"⟩
def dkwX6_scan_11 : List UInt8 := [160, 0, 7, 6, 167, 0, 4, 7, 181, 0, 27, 42, 89, 180, 0, 20, 4, 96, 181, 0, 20, 177]
abbrev dktX6_scan_11 : List UInt8 := dkwX6_scan_11 ++ []
def dkwX6_scan_10 : List UInt8 := [180, 0, 7, 100, 6, 164, 0, 7, 7, 167, 0, 4, 5, 181, 0, 27, 167, 0, 28, 42, 27, 16, 59]
abbrev dktX6_scan_10 : List UInt8 := dkwX6_scan_10 ++ dktX6_scan_11
def dkwX6_scan_9 : List UInt8 := [181, 0, 37, 42, 89, 180, 0, 20, 4, 96, 181, 0, 20, 167, 255, 196, 42, 42, 180, 0, 20, 42]
abbrev dktX6_scan_9 : List UInt8 := dkwX6_scan_9 ++ dktX6_scan_10
def dkwX6_scan_8 : List UInt8 := [162, 0, 26, 42, 16, 10, 42, 180, 0, 37, 104, 42, 42, 180, 0, 20, 182, 0, 23, 96, 16, 48, 100]
abbrev dktX6_scan_8 : List UInt8 := dkwX6_scan_8 ++ dktX6_scan_9
def dkwX6_scan_7 : List UInt8 := [180, 0, 20, 182, 0, 23, 184, 0, 34, 153, 0, 52, 42, 180, 0, 20, 42, 180, 0, 7, 100, 6]
abbrev dktX6_scan_7 : List UInt8 := dkwX6_scan_7 ++ dktX6_scan_8
def dkwX6_scan_6 : List UInt8 := [167, 0, 4, 4, 181, 0, 27, 167, 0, 128, 27, 184, 0, 34, 153, 0, 96, 42, 3, 181, 0, 37, 42, 42]
abbrev dktX6_scan_6 : List UInt8 := dkwX6_scan_6 ++ dktX6_scan_7
def dkwX6_scan_5 : List UInt8 := [181, 0, 20, 167, 255, 232, 42, 42, 180, 0, 20, 42, 180, 0, 7, 100, 16, 8, 164, 0, 7, 7]
abbrev dktX6_scan_5 : List UInt8 := dkwX6_scan_5 ++ dktX6_scan_6
def dkwX6_scan_4 : List UInt8 := [153, 0, 56, 42, 42, 180, 0, 20, 182, 0, 23, 184, 0, 30, 153, 0, 16, 42, 89, 180, 0, 20, 4, 96]
abbrev dktX6_scan_4 : List UInt8 := dkwX6_scan_4 ++ dktX6_scan_5
def dkwX6_scan_3 : List UInt8 := [180, 0, 7, 42, 180, 0, 13, 160, 0, 11, 42, 3, 181, 0, 27, 167, 0, 188, 27, 184, 0, 30]
abbrev dktX6_scan_3 : List UInt8 := dkwX6_scan_3 ++ dktX6_scan_4
def dkwX6_scan_2 : List UInt8 := [181, 0, 20, 167, 255, 207, 42, 42, 180, 0, 20, 181, 0, 7, 42, 42, 180, 0, 7, 182, 0, 23, 60, 42]
abbrev dktX6_scan_2 : List UInt8 := dkwX6_scan_2 ++ dktX6_scan_3
def dkwX6_scan_1 : List UInt8 := [159, 0, 17, 42, 180, 0, 16, 42, 180, 0, 20, 51, 16, 10, 160, 0, 16, 42, 89, 180, 0, 20, 4, 96]
abbrev dktX6_scan_1 : List UInt8 := dkwX6_scan_1 ++ dktX6_scan_2
def dkwX6_scan_0 : List UInt8 := [42, 180, 0, 20, 42, 180, 0, 13, 162, 0, 44, 42, 180, 0, 16, 42, 180, 0, 20, 51, 16, 32]
abbrev dktX6_scan_0 : List UInt8 := dkwX6_scan_0 ++ dktX6_scan_1
theorem dksX6_scan_0 : cX6_scan.data.toList.drop 0 = dktX6_scan_0 := by decide +kernel
theorem dksX6_scan_1 : cX6_scan.data.toList.drop 22 = dktX6_scan_1 := dk_seg dksX6_scan_0 22 rfl rfl
theorem dksX6_scan_2 : cX6_scan.data.toList.drop 46 = dktX6_scan_2 := dk_seg dksX6_scan_1 24 rfl rfl
theorem dksX6_scan_3 : cX6_scan.data.toList.drop 70 = dktX6_scan_3 := dk_seg dksX6_scan_2 24 rfl rfl
theorem dksX6_scan_4 : cX6_scan.data.toList.drop 92 = dktX6_scan_4 := dk_seg dksX6_scan_3 22 rfl rfl
theorem dksX6_scan_5 : cX6_scan.data.toList.drop 116 = dktX6_scan_5 := dk_seg dksX6_scan_4 24 rfl rfl
theorem dksX6_scan_6 : cX6_scan.data.toList.drop 138 = dktX6_scan_6 := dk_seg dksX6_scan_5 22 rfl rfl
theorem dksX6_scan_7 : cX6_scan.data.toList.drop 162 = dktX6_scan_7 := dk_seg dksX6_scan_6 24 rfl rfl
theorem dksX6_scan_8 : cX6_scan.data.toList.drop 184 = dktX6_scan_8 := dk_seg dksX6_scan_7 22 rfl rfl
theorem dksX6_scan_9 : cX6_scan.data.toList.drop 207 = dktX6_scan_9 := dk_seg dksX6_scan_8 23 rfl rfl
theorem dksX6_scan_10 : cX6_scan.data.toList.drop 229 = dktX6_scan_10 := dk_seg dksX6_scan_9 22 rfl rfl
theorem dksX6_scan_11 : cX6_scan.data.toList.drop 252 = dktX6_scan_11 := dk_seg dksX6_scan_10 23 rfl rfl
theorem dX6_scan_0 : decode cX6_scan 0 = .ok (.aload_n 0, 1) := dk_42 (dk_at dksX6_scan_0 0 rfl rfl)
theorem dX6_scan_1 : decode cX6_scan 1 = .ok (.getfield 20, 3) := dk_180 0 20 (dk_at dksX6_scan_0 1 rfl rfl)
theorem dX6_scan_4 : decode cX6_scan 4 = .ok (.aload_n 0, 1) := dk_42 (dk_at dksX6_scan_0 4 rfl rfl)
theorem dX6_scan_5 : decode cX6_scan 5 = .ok (.getfield 13, 3) := dk_180 0 13 (dk_at dksX6_scan_0 5 rfl rfl)
theorem dX6_scan_8 : decode cX6_scan 8 = .ok (.if_icmp .ge 44, 3) := dk_162 0 44 (dk_at dksX6_scan_0 8 rfl rfl)
theorem dX6_scan_11 : decode cX6_scan 11 = .ok (.aload_n 0, 1) := dk_42 (dk_at dksX6_scan_0 11 rfl rfl)
theorem dX6_scan_12 : decode cX6_scan 12 = .ok (.getfield 16, 3) := dk_180 0 16 (dk_at dksX6_scan_0 12 rfl rfl)
theorem dX6_scan_15 : decode cX6_scan 15 = .ok (.aload_n 0, 1) := dk_42 (dk_at dksX6_scan_0 15 rfl rfl)
theorem dX6_scan_16 : decode cX6_scan 16 = .ok (.getfield 20, 3) := dk_180 0 20 (dk_at dksX6_scan_0 16 rfl rfl)
theorem dX6_scan_19 : decode cX6_scan 19 = .ok (.baload, 1) := dk_51 (dk_at dksX6_scan_0 19 rfl rfl)
theorem dX6_scan_20 : decode cX6_scan 20 = .ok (.bipush 32, 2) := dk_16 32 (dk_at dksX6_scan_0 20 rfl rfl)
theorem dX6_scan_22 : decode cX6_scan 22 = .ok (.if_icmp .eq 17, 3) := dk_159 0 17 (dk_at dksX6_scan_1 0 rfl rfl)
theorem dX6_scan_25 : decode cX6_scan 25 = .ok (.aload_n 0, 1) := dk_42 (dk_at dksX6_scan_1 3 rfl rfl)
theorem dX6_scan_26 : decode cX6_scan 26 = .ok (.getfield 16, 3) := dk_180 0 16 (dk_at dksX6_scan_1 4 rfl rfl)
theorem dX6_scan_29 : decode cX6_scan 29 = .ok (.aload_n 0, 1) := dk_42 (dk_at dksX6_scan_1 7 rfl rfl)
theorem dX6_scan_30 : decode cX6_scan 30 = .ok (.getfield 20, 3) := dk_180 0 20 (dk_at dksX6_scan_1 8 rfl rfl)
theorem dX6_scan_33 : decode cX6_scan 33 = .ok (.baload, 1) := dk_51 (dk_at dksX6_scan_1 11 rfl rfl)
theorem dX6_scan_34 : decode cX6_scan 34 = .ok (.bipush 10, 2) := dk_16 10 (dk_at dksX6_scan_1 12 rfl rfl)
theorem dX6_scan_36 : decode cX6_scan 36 = .ok (.if_icmp .ne 16, 3) := dk_160 0 16 (dk_at dksX6_scan_1 14 rfl rfl)
theorem dX6_scan_39 : decode cX6_scan 39 = .ok (.aload_n 0, 1) := dk_42 (dk_at dksX6_scan_1 17 rfl rfl)
theorem dX6_scan_40 : decode cX6_scan 40 = .ok (.dup, 1) := dk_89 (dk_at dksX6_scan_1 18 rfl rfl)
theorem dX6_scan_41 : decode cX6_scan 41 = .ok (.getfield 20, 3) := dk_180 0 20 (dk_at dksX6_scan_1 19 rfl rfl)
theorem dX6_scan_44 : decode cX6_scan 44 = .ok (.iconst 1, 1) := dk_4 (dk_at dksX6_scan_1 22 rfl rfl)
theorem dX6_scan_45 : decode cX6_scan 45 = .ok (.iadd, 1) := dk_96 (dk_at dksX6_scan_1 23 rfl rfl)
theorem dX6_scan_46 : decode cX6_scan 46 = .ok (.putfield 20, 3) := dk_181 0 20 (dk_at dksX6_scan_2 0 rfl rfl)
theorem dX6_scan_49 : decode cX6_scan 49 = .ok (.goto (-49), 3) := dk_167 255 207 (dk_at dksX6_scan_2 3 rfl rfl)
theorem dX6_scan_52 : decode cX6_scan 52 = .ok (.aload_n 0, 1) := dk_42 (dk_at dksX6_scan_2 6 rfl rfl)
theorem dX6_scan_53 : decode cX6_scan 53 = .ok (.aload_n 0, 1) := dk_42 (dk_at dksX6_scan_2 7 rfl rfl)
theorem dX6_scan_54 : decode cX6_scan 54 = .ok (.getfield 20, 3) := dk_180 0 20 (dk_at dksX6_scan_2 8 rfl rfl)
theorem dX6_scan_57 : decode cX6_scan 57 = .ok (.putfield 7, 3) := dk_181 0 7 (dk_at dksX6_scan_2 11 rfl rfl)
theorem dX6_scan_60 : decode cX6_scan 60 = .ok (.aload_n 0, 1) := dk_42 (dk_at dksX6_scan_2 14 rfl rfl)
theorem dX6_scan_61 : decode cX6_scan 61 = .ok (.aload_n 0, 1) := dk_42 (dk_at dksX6_scan_2 15 rfl rfl)
theorem dX6_scan_62 : decode cX6_scan 62 = .ok (.getfield 7, 3) := dk_180 0 7 (dk_at dksX6_scan_2 16 rfl rfl)
theorem dX6_scan_65 : decode cX6_scan 65 = .ok (.invokevirtual 23, 3) := dk_182 0 23 (dk_at dksX6_scan_2 19 rfl rfl)
theorem dX6_scan_68 : decode cX6_scan 68 = .ok (.istore_n 1, 1) := dk_60 (dk_at dksX6_scan_2 22 rfl rfl)
theorem dX6_scan_69 : decode cX6_scan 69 = .ok (.aload_n 0, 1) := dk_42 (dk_at dksX6_scan_2 23 rfl rfl)
theorem dX6_scan_70 : decode cX6_scan 70 = .ok (.getfield 7, 3) := dk_180 0 7 (dk_at dksX6_scan_3 0 rfl rfl)
theorem dX6_scan_73 : decode cX6_scan 73 = .ok (.aload_n 0, 1) := dk_42 (dk_at dksX6_scan_3 3 rfl rfl)
theorem dX6_scan_74 : decode cX6_scan 74 = .ok (.getfield 13, 3) := dk_180 0 13 (dk_at dksX6_scan_3 4 rfl rfl)
theorem dX6_scan_77 : decode cX6_scan 77 = .ok (.if_icmp .ne 11, 3) := dk_160 0 11 (dk_at dksX6_scan_3 7 rfl rfl)
theorem dX6_scan_80 : decode cX6_scan 80 = .ok (.aload_n 0, 1) := dk_42 (dk_at dksX6_scan_3 10 rfl rfl)
theorem dX6_scan_81 : decode cX6_scan 81 = .ok (.iconst 0, 1) := dk_3 (dk_at dksX6_scan_3 11 rfl rfl)
theorem dX6_scan_82 : decode cX6_scan 82 = .ok (.putfield 27, 3) := dk_181 0 27 (dk_at dksX6_scan_3 12 rfl rfl)
theorem dX6_scan_85 : decode cX6_scan 85 = .ok (.goto 188, 3) := dk_167 0 188 (dk_at dksX6_scan_3 15 rfl rfl)
theorem dX6_scan_88 : decode cX6_scan 88 = .ok (.iload_n 1, 1) := dk_27 (dk_at dksX6_scan_3 18 rfl rfl)
theorem dX6_scan_89 : decode cX6_scan 89 = .ok (.invokestatic 30, 3) := dk_184 0 30 (dk_at dksX6_scan_3 19 rfl rfl)
theorem dX6_scan_92 : decode cX6_scan 92 = .ok (.ifCond .eq 56, 3) := dk_153 0 56 (dk_at dksX6_scan_4 0 rfl rfl)
theorem dX6_scan_95 : decode cX6_scan 95 = .ok (.aload_n 0, 1) := dk_42 (dk_at dksX6_scan_4 3 rfl rfl)
theorem dX6_scan_96 : decode cX6_scan 96 = .ok (.aload_n 0, 1) := dk_42 (dk_at dksX6_scan_4 4 rfl rfl)
theorem dX6_scan_97 : decode cX6_scan 97 = .ok (.getfield 20, 3) := dk_180 0 20 (dk_at dksX6_scan_4 5 rfl rfl)
theorem dX6_scan_100 : decode cX6_scan 100 = .ok (.invokevirtual 23, 3) := dk_182 0 23 (dk_at dksX6_scan_4 8 rfl rfl)
theorem dX6_scan_103 : decode cX6_scan 103 = .ok (.invokestatic 30, 3) := dk_184 0 30 (dk_at dksX6_scan_4 11 rfl rfl)
theorem dX6_scan_106 : decode cX6_scan 106 = .ok (.ifCond .eq 16, 3) := dk_153 0 16 (dk_at dksX6_scan_4 14 rfl rfl)
theorem dX6_scan_109 : decode cX6_scan 109 = .ok (.aload_n 0, 1) := dk_42 (dk_at dksX6_scan_4 17 rfl rfl)
theorem dX6_scan_110 : decode cX6_scan 110 = .ok (.dup, 1) := dk_89 (dk_at dksX6_scan_4 18 rfl rfl)
theorem dX6_scan_111 : decode cX6_scan 111 = .ok (.getfield 20, 3) := dk_180 0 20 (dk_at dksX6_scan_4 19 rfl rfl)
theorem dX6_scan_114 : decode cX6_scan 114 = .ok (.iconst 1, 1) := dk_4 (dk_at dksX6_scan_4 22 rfl rfl)
theorem dX6_scan_115 : decode cX6_scan 115 = .ok (.iadd, 1) := dk_96 (dk_at dksX6_scan_4 23 rfl rfl)
theorem dX6_scan_116 : decode cX6_scan 116 = .ok (.putfield 20, 3) := dk_181 0 20 (dk_at dksX6_scan_5 0 rfl rfl)
theorem dX6_scan_119 : decode cX6_scan 119 = .ok (.goto (-24), 3) := dk_167 255 232 (dk_at dksX6_scan_5 3 rfl rfl)
theorem dX6_scan_122 : decode cX6_scan 122 = .ok (.aload_n 0, 1) := dk_42 (dk_at dksX6_scan_5 6 rfl rfl)
theorem dX6_scan_123 : decode cX6_scan 123 = .ok (.aload_n 0, 1) := dk_42 (dk_at dksX6_scan_5 7 rfl rfl)
theorem dX6_scan_124 : decode cX6_scan 124 = .ok (.getfield 20, 3) := dk_180 0 20 (dk_at dksX6_scan_5 8 rfl rfl)
theorem dX6_scan_127 : decode cX6_scan 127 = .ok (.aload_n 0, 1) := dk_42 (dk_at dksX6_scan_5 11 rfl rfl)
theorem dX6_scan_128 : decode cX6_scan 128 = .ok (.getfield 7, 3) := dk_180 0 7 (dk_at dksX6_scan_5 12 rfl rfl)
theorem dX6_scan_131 : decode cX6_scan 131 = .ok (.isub, 1) := dk_100 (dk_at dksX6_scan_5 15 rfl rfl)
theorem dX6_scan_132 : decode cX6_scan 132 = .ok (.bipush 8, 2) := dk_16 8 (dk_at dksX6_scan_5 16 rfl rfl)
theorem dX6_scan_134 : decode cX6_scan 134 = .ok (.if_icmp .le 7, 3) := dk_164 0 7 (dk_at dksX6_scan_5 18 rfl rfl)
theorem dX6_scan_137 : decode cX6_scan 137 = .ok (.iconst 4, 1) := dk_7 (dk_at dksX6_scan_5 21 rfl rfl)
theorem dX6_scan_138 : decode cX6_scan 138 = .ok (.goto 4, 3) := dk_167 0 4 (dk_at dksX6_scan_6 0 rfl rfl)
theorem dX6_scan_141 : decode cX6_scan 141 = .ok (.iconst 1, 1) := dk_4 (dk_at dksX6_scan_6 3 rfl rfl)
theorem dX6_scan_142 : decode cX6_scan 142 = .ok (.putfield 27, 3) := dk_181 0 27 (dk_at dksX6_scan_6 4 rfl rfl)
theorem dX6_scan_145 : decode cX6_scan 145 = .ok (.goto 128, 3) := dk_167 0 128 (dk_at dksX6_scan_6 7 rfl rfl)
theorem dX6_scan_148 : decode cX6_scan 148 = .ok (.iload_n 1, 1) := dk_27 (dk_at dksX6_scan_6 10 rfl rfl)
theorem dX6_scan_149 : decode cX6_scan 149 = .ok (.invokestatic 34, 3) := dk_184 0 34 (dk_at dksX6_scan_6 11 rfl rfl)
theorem dX6_scan_152 : decode cX6_scan 152 = .ok (.ifCond .eq 96, 3) := dk_153 0 96 (dk_at dksX6_scan_6 14 rfl rfl)
theorem dX6_scan_155 : decode cX6_scan 155 = .ok (.aload_n 0, 1) := dk_42 (dk_at dksX6_scan_6 17 rfl rfl)
theorem dX6_scan_156 : decode cX6_scan 156 = .ok (.iconst 0, 1) := dk_3 (dk_at dksX6_scan_6 18 rfl rfl)
theorem dX6_scan_157 : decode cX6_scan 157 = .ok (.putfield 37, 3) := dk_181 0 37 (dk_at dksX6_scan_6 19 rfl rfl)
theorem dX6_scan_160 : decode cX6_scan 160 = .ok (.aload_n 0, 1) := dk_42 (dk_at dksX6_scan_6 22 rfl rfl)
theorem dX6_scan_161 : decode cX6_scan 161 = .ok (.aload_n 0, 1) := dk_42 (dk_at dksX6_scan_6 23 rfl rfl)
theorem dX6_scan_162 : decode cX6_scan 162 = .ok (.getfield 20, 3) := dk_180 0 20 (dk_at dksX6_scan_7 0 rfl rfl)
theorem dX6_scan_165 : decode cX6_scan 165 = .ok (.invokevirtual 23, 3) := dk_182 0 23 (dk_at dksX6_scan_7 3 rfl rfl)
theorem dX6_scan_168 : decode cX6_scan 168 = .ok (.invokestatic 34, 3) := dk_184 0 34 (dk_at dksX6_scan_7 6 rfl rfl)
theorem dX6_scan_171 : decode cX6_scan 171 = .ok (.ifCond .eq 52, 3) := dk_153 0 52 (dk_at dksX6_scan_7 9 rfl rfl)
theorem dX6_scan_174 : decode cX6_scan 174 = .ok (.aload_n 0, 1) := dk_42 (dk_at dksX6_scan_7 12 rfl rfl)
theorem dX6_scan_175 : decode cX6_scan 175 = .ok (.getfield 20, 3) := dk_180 0 20 (dk_at dksX6_scan_7 13 rfl rfl)
theorem dX6_scan_178 : decode cX6_scan 178 = .ok (.aload_n 0, 1) := dk_42 (dk_at dksX6_scan_7 16 rfl rfl)
theorem dX6_scan_179 : decode cX6_scan 179 = .ok (.getfield 7, 3) := dk_180 0 7 (dk_at dksX6_scan_7 17 rfl rfl)
theorem dX6_scan_182 : decode cX6_scan 182 = .ok (.isub, 1) := dk_100 (dk_at dksX6_scan_7 20 rfl rfl)
theorem dX6_scan_183 : decode cX6_scan 183 = .ok (.iconst 3, 1) := dk_6 (dk_at dksX6_scan_7 21 rfl rfl)
theorem dX6_scan_184 : decode cX6_scan 184 = .ok (.if_icmp .ge 26, 3) := dk_162 0 26 (dk_at dksX6_scan_8 0 rfl rfl)
theorem dX6_scan_187 : decode cX6_scan 187 = .ok (.aload_n 0, 1) := dk_42 (dk_at dksX6_scan_8 3 rfl rfl)
theorem dX6_scan_188 : decode cX6_scan 188 = .ok (.bipush 10, 2) := dk_16 10 (dk_at dksX6_scan_8 4 rfl rfl)
theorem dX6_scan_190 : decode cX6_scan 190 = .ok (.aload_n 0, 1) := dk_42 (dk_at dksX6_scan_8 6 rfl rfl)
theorem dX6_scan_191 : decode cX6_scan 191 = .ok (.getfield 37, 3) := dk_180 0 37 (dk_at dksX6_scan_8 7 rfl rfl)
theorem dX6_scan_194 : decode cX6_scan 194 = .ok (.imul, 1) := dk_104 (dk_at dksX6_scan_8 10 rfl rfl)
theorem dX6_scan_195 : decode cX6_scan 195 = .ok (.aload_n 0, 1) := dk_42 (dk_at dksX6_scan_8 11 rfl rfl)
theorem dX6_scan_196 : decode cX6_scan 196 = .ok (.aload_n 0, 1) := dk_42 (dk_at dksX6_scan_8 12 rfl rfl)
theorem dX6_scan_197 : decode cX6_scan 197 = .ok (.getfield 20, 3) := dk_180 0 20 (dk_at dksX6_scan_8 13 rfl rfl)
theorem dX6_scan_200 : decode cX6_scan 200 = .ok (.invokevirtual 23, 3) := dk_182 0 23 (dk_at dksX6_scan_8 16 rfl rfl)
theorem dX6_scan_203 : decode cX6_scan 203 = .ok (.iadd, 1) := dk_96 (dk_at dksX6_scan_8 19 rfl rfl)
theorem dX6_scan_204 : decode cX6_scan 204 = .ok (.bipush 48, 2) := dk_16 48 (dk_at dksX6_scan_8 20 rfl rfl)
theorem dX6_scan_206 : decode cX6_scan 206 = .ok (.isub, 1) := dk_100 (dk_at dksX6_scan_8 22 rfl rfl)
theorem dX6_scan_207 : decode cX6_scan 207 = .ok (.putfield 37, 3) := dk_181 0 37 (dk_at dksX6_scan_9 0 rfl rfl)
theorem dX6_scan_210 : decode cX6_scan 210 = .ok (.aload_n 0, 1) := dk_42 (dk_at dksX6_scan_9 3 rfl rfl)
theorem dX6_scan_211 : decode cX6_scan 211 = .ok (.dup, 1) := dk_89 (dk_at dksX6_scan_9 4 rfl rfl)
theorem dX6_scan_212 : decode cX6_scan 212 = .ok (.getfield 20, 3) := dk_180 0 20 (dk_at dksX6_scan_9 5 rfl rfl)
theorem dX6_scan_215 : decode cX6_scan 215 = .ok (.iconst 1, 1) := dk_4 (dk_at dksX6_scan_9 8 rfl rfl)
theorem dX6_scan_216 : decode cX6_scan 216 = .ok (.iadd, 1) := dk_96 (dk_at dksX6_scan_9 9 rfl rfl)
theorem dX6_scan_217 : decode cX6_scan 217 = .ok (.putfield 20, 3) := dk_181 0 20 (dk_at dksX6_scan_9 10 rfl rfl)
theorem dX6_scan_220 : decode cX6_scan 220 = .ok (.goto (-60), 3) := dk_167 255 196 (dk_at dksX6_scan_9 13 rfl rfl)
theorem dX6_scan_223 : decode cX6_scan 223 = .ok (.aload_n 0, 1) := dk_42 (dk_at dksX6_scan_9 16 rfl rfl)
theorem dX6_scan_224 : decode cX6_scan 224 = .ok (.aload_n 0, 1) := dk_42 (dk_at dksX6_scan_9 17 rfl rfl)
theorem dX6_scan_225 : decode cX6_scan 225 = .ok (.getfield 20, 3) := dk_180 0 20 (dk_at dksX6_scan_9 18 rfl rfl)
theorem dX6_scan_228 : decode cX6_scan 228 = .ok (.aload_n 0, 1) := dk_42 (dk_at dksX6_scan_9 21 rfl rfl)
theorem dX6_scan_229 : decode cX6_scan 229 = .ok (.getfield 7, 3) := dk_180 0 7 (dk_at dksX6_scan_10 0 rfl rfl)
theorem dX6_scan_232 : decode cX6_scan 232 = .ok (.isub, 1) := dk_100 (dk_at dksX6_scan_10 3 rfl rfl)
theorem dX6_scan_233 : decode cX6_scan 233 = .ok (.iconst 3, 1) := dk_6 (dk_at dksX6_scan_10 4 rfl rfl)
theorem dX6_scan_234 : decode cX6_scan 234 = .ok (.if_icmp .le 7, 3) := dk_164 0 7 (dk_at dksX6_scan_10 5 rfl rfl)
theorem dX6_scan_237 : decode cX6_scan 237 = .ok (.iconst 4, 1) := dk_7 (dk_at dksX6_scan_10 8 rfl rfl)
theorem dX6_scan_238 : decode cX6_scan 238 = .ok (.goto 4, 3) := dk_167 0 4 (dk_at dksX6_scan_10 9 rfl rfl)
theorem dX6_scan_241 : decode cX6_scan 241 = .ok (.iconst 2, 1) := dk_5 (dk_at dksX6_scan_10 12 rfl rfl)
theorem dX6_scan_242 : decode cX6_scan 242 = .ok (.putfield 27, 3) := dk_181 0 27 (dk_at dksX6_scan_10 13 rfl rfl)
theorem dX6_scan_245 : decode cX6_scan 245 = .ok (.goto 28, 3) := dk_167 0 28 (dk_at dksX6_scan_10 16 rfl rfl)
theorem dX6_scan_248 : decode cX6_scan 248 = .ok (.aload_n 0, 1) := dk_42 (dk_at dksX6_scan_10 19 rfl rfl)
theorem dX6_scan_249 : decode cX6_scan 249 = .ok (.iload_n 1, 1) := dk_27 (dk_at dksX6_scan_10 20 rfl rfl)
theorem dX6_scan_250 : decode cX6_scan 250 = .ok (.bipush 59, 2) := dk_16 59 (dk_at dksX6_scan_10 21 rfl rfl)
theorem dX6_scan_252 : decode cX6_scan 252 = .ok (.if_icmp .ne 7, 3) := dk_160 0 7 (dk_at dksX6_scan_11 0 rfl rfl)
theorem dX6_scan_255 : decode cX6_scan 255 = .ok (.iconst 3, 1) := dk_6 (dk_at dksX6_scan_11 3 rfl rfl)
theorem dX6_scan_256 : decode cX6_scan 256 = .ok (.goto 4, 3) := dk_167 0 4 (dk_at dksX6_scan_11 4 rfl rfl)
theorem dX6_scan_259 : decode cX6_scan 259 = .ok (.iconst 4, 1) := dk_7 (dk_at dksX6_scan_11 7 rfl rfl)
theorem dX6_scan_260 : decode cX6_scan 260 = .ok (.putfield 27, 3) := dk_181 0 27 (dk_at dksX6_scan_11 8 rfl rfl)
theorem dX6_scan_263 : decode cX6_scan 263 = .ok (.aload_n 0, 1) := dk_42 (dk_at dksX6_scan_11 11 rfl rfl)
theorem dX6_scan_264 : decode cX6_scan 264 = .ok (.dup, 1) := dk_89 (dk_at dksX6_scan_11 12 rfl rfl)
theorem dX6_scan_265 : decode cX6_scan 265 = .ok (.getfield 20, 3) := dk_180 0 20 (dk_at dksX6_scan_11 13 rfl rfl)
theorem dX6_scan_268 : decode cX6_scan 268 = .ok (.iconst 1, 1) := dk_4 (dk_at dksX6_scan_11 16 rfl rfl)
theorem dX6_scan_269 : decode cX6_scan 269 = .ok (.iadd, 1) := dk_96 (dk_at dksX6_scan_11 17 rfl rfl)
theorem dX6_scan_270 : decode cX6_scan 270 = .ok (.putfield 20, 3) := dk_181 0 20 (dk_at dksX6_scan_11 18 rfl rfl)
theorem dX6_scan_273 : decode cX6_scan 273 = .ok (.return_, 1) := dk_177 (dk_at dksX6_scan_11 21 rfl rfl)
abbrev cX6_byteAt : ByteArray := prog_16_method_3_code
def yX6_byteAt : MethodName := ⟨RX6, "byteAt", "(I)I"⟩
def dkwX6_byteAt_0 : List UInt8 := [27, 42, 180, 0, 13, 162, 0, 16, 42, 180, 0, 16, 27, 51, 17, 0, 255, 126, 167, 0, 4, 3, 172]
abbrev dktX6_byteAt_0 : List UInt8 := dkwX6_byteAt_0 ++ []
theorem dksX6_byteAt_0 : cX6_byteAt.data.toList.drop 0 = dktX6_byteAt_0 := by decide +kernel
theorem dX6_byteAt_0 : decode cX6_byteAt 0 = .ok (.iload_n 1, 1) := dk_27 (dk_at dksX6_byteAt_0 0 rfl rfl)
theorem dX6_byteAt_1 : decode cX6_byteAt 1 = .ok (.aload_n 0, 1) := dk_42 (dk_at dksX6_byteAt_0 1 rfl rfl)
theorem dX6_byteAt_2 : decode cX6_byteAt 2 = .ok (.getfield 13, 3) := dk_180 0 13 (dk_at dksX6_byteAt_0 2 rfl rfl)
theorem dX6_byteAt_5 : decode cX6_byteAt 5 = .ok (.if_icmp .ge 16, 3) := dk_162 0 16 (dk_at dksX6_byteAt_0 5 rfl rfl)
theorem dX6_byteAt_8 : decode cX6_byteAt 8 = .ok (.aload_n 0, 1) := dk_42 (dk_at dksX6_byteAt_0 8 rfl rfl)
theorem dX6_byteAt_9 : decode cX6_byteAt 9 = .ok (.getfield 16, 3) := dk_180 0 16 (dk_at dksX6_byteAt_0 9 rfl rfl)
theorem dX6_byteAt_12 : decode cX6_byteAt 12 = .ok (.iload_n 1, 1) := dk_27 (dk_at dksX6_byteAt_0 12 rfl rfl)
theorem dX6_byteAt_13 : decode cX6_byteAt 13 = .ok (.baload, 1) := dk_51 (dk_at dksX6_byteAt_0 13 rfl rfl)
theorem dX6_byteAt_14 : decode cX6_byteAt 14 = .ok (.sipush 255, 3) := dk_17 0 255 (dk_at dksX6_byteAt_0 14 rfl rfl)
theorem dX6_byteAt_17 : decode cX6_byteAt 17 = .ok (.iand, 1) := dk_126 (dk_at dksX6_byteAt_0 17 rfl rfl)
theorem dX6_byteAt_18 : decode cX6_byteAt 18 = .ok (.goto 4, 3) := dk_167 0 4 (dk_at dksX6_byteAt_0 18 rfl rfl)
theorem dX6_byteAt_21 : decode cX6_byteAt 21 = .ok (.iconst 0, 1) := dk_3 (dk_at dksX6_byteAt_0 21 rfl rfl)
theorem dX6_byteAt_22 : decode cX6_byteAt 22 = .ok (.ireturn, 1) := dk_172 (dk_at dksX6_byteAt_0 22 rfl rfl)
abbrev cX6_isSmall : ByteArray := prog_16_method_4_code
def yX6_isSmall : MethodName := ⟨RX6, "isSmall", "(I)Z"⟩
def dkwX6_isSmall_0 : List UInt8 := [26, 16, 97, 161, 0, 13, 26, 16, 122, 163, 0, 7, 4, 167, 0, 4, 3, 172]
abbrev dktX6_isSmall_0 : List UInt8 := dkwX6_isSmall_0 ++ []
theorem dksX6_isSmall_0 : cX6_isSmall.data.toList.drop 0 = dktX6_isSmall_0 := by decide +kernel
theorem dX6_isSmall_0 : decode cX6_isSmall 0 = .ok (.iload_n 0, 1) := dk_26 (dk_at dksX6_isSmall_0 0 rfl rfl)
theorem dX6_isSmall_1 : decode cX6_isSmall 1 = .ok (.bipush 97, 2) := dk_16 97 (dk_at dksX6_isSmall_0 1 rfl rfl)
theorem dX6_isSmall_3 : decode cX6_isSmall 3 = .ok (.if_icmp .lt 13, 3) := dk_161 0 13 (dk_at dksX6_isSmall_0 3 rfl rfl)
theorem dX6_isSmall_6 : decode cX6_isSmall 6 = .ok (.iload_n 0, 1) := dk_26 (dk_at dksX6_isSmall_0 6 rfl rfl)
theorem dX6_isSmall_7 : decode cX6_isSmall 7 = .ok (.bipush 122, 2) := dk_16 122 (dk_at dksX6_isSmall_0 7 rfl rfl)
theorem dX6_isSmall_9 : decode cX6_isSmall 9 = .ok (.if_icmp .gt 7, 3) := dk_163 0 7 (dk_at dksX6_isSmall_0 9 rfl rfl)
theorem dX6_isSmall_12 : decode cX6_isSmall 12 = .ok (.iconst 1, 1) := dk_4 (dk_at dksX6_isSmall_0 12 rfl rfl)
theorem dX6_isSmall_13 : decode cX6_isSmall 13 = .ok (.goto 4, 3) := dk_167 0 4 (dk_at dksX6_isSmall_0 13 rfl rfl)
theorem dX6_isSmall_16 : decode cX6_isSmall 16 = .ok (.iconst 0, 1) := dk_3 (dk_at dksX6_isSmall_0 16 rfl rfl)
theorem dX6_isSmall_17 : decode cX6_isSmall 17 = .ok (.ireturn, 1) := dk_172 (dk_at dksX6_isSmall_0 17 rfl rfl)
abbrev cX6_isDigit : ByteArray := prog_16_method_5_code
def yX6_isDigit : MethodName := ⟨RX6, "isDigit", "(I)Z"⟩
def dkwX6_isDigit_0 : List UInt8 := [26, 16, 48, 161, 0, 13, 26, 16, 57, 163, 0, 7, 4, 167, 0, 4, 3, 172]
abbrev dktX6_isDigit_0 : List UInt8 := dkwX6_isDigit_0 ++ []
theorem dksX6_isDigit_0 : cX6_isDigit.data.toList.drop 0 = dktX6_isDigit_0 := by decide +kernel
theorem dX6_isDigit_0 : decode cX6_isDigit 0 = .ok (.iload_n 0, 1) := dk_26 (dk_at dksX6_isDigit_0 0 rfl rfl)
theorem dX6_isDigit_1 : decode cX6_isDigit 1 = .ok (.bipush 48, 2) := dk_16 48 (dk_at dksX6_isDigit_0 1 rfl rfl)
theorem dX6_isDigit_3 : decode cX6_isDigit 3 = .ok (.if_icmp .lt 13, 3) := dk_161 0 13 (dk_at dksX6_isDigit_0 3 rfl rfl)
theorem dX6_isDigit_6 : decode cX6_isDigit 6 = .ok (.iload_n 0, 1) := dk_26 (dk_at dksX6_isDigit_0 6 rfl rfl)
theorem dX6_isDigit_7 : decode cX6_isDigit 7 = .ok (.bipush 57, 2) := dk_16 57 (dk_at dksX6_isDigit_0 7 rfl rfl)
theorem dX6_isDigit_9 : decode cX6_isDigit 9 = .ok (.if_icmp .gt 7, 3) := dk_163 0 7 (dk_at dksX6_isDigit_0 9 rfl rfl)
theorem dX6_isDigit_12 : decode cX6_isDigit 12 = .ok (.iconst 1, 1) := dk_4 (dk_at dksX6_isDigit_0 12 rfl rfl)
theorem dX6_isDigit_13 : decode cX6_isDigit 13 = .ok (.goto 4, 3) := dk_167 0 4 (dk_at dksX6_isDigit_0 13 rfl rfl)
theorem dX6_isDigit_16 : decode cX6_isDigit 16 = .ok (.iconst 0, 1) := dk_3 (dk_at dksX6_isDigit_0 16 rfl rfl)
theorem dX6_isDigit_17 : decode cX6_isDigit 17 = .ok (.ireturn, 1) := dk_172 (dk_at dksX6_isDigit_0 17 rfl rfl)
abbrev cX6_readBeach : ByteArray := prog_16_method_21_code
def yX6_readBeach : MethodName := ⟨RX6, "readBeach", "()Z"⟩
def dkwX6_readBeach_7 : List UInt8 := [42, 182, 0, 159, 154, 0, 5, 3, 172, 42, 89, 180, 0, 131, 4, 96, 181, 0, 131, 167, 255, 157, 4, 172]
abbrev dktX6_readBeach_7 : List UInt8 := dkwX6_readBeach_7 ++ []
def dkwX6_readBeach_6 : List UInt8 := [18, 151, 182, 0, 106, 153, 0, 10, 42, 182, 0, 153, 167, 0, 7, 42, 182, 0, 156, 60, 27, 153, 0, 10]
abbrev dktX6_readBeach_6 : List UInt8 := dkwX6_readBeach_6 ++ dktX6_readBeach_7
def dkwX6_readBeach_5 : List UInt8 := [182, 0, 145, 167, 0, 39, 42, 18, 147, 182, 0, 106, 153, 0, 10, 42, 182, 0, 149, 167, 0, 23, 42]
abbrev dktX6_readBeach_5 : List UInt8 := dkwX6_readBeach_5 ++ dktX6_readBeach_6
def dkwX6_readBeach_4 : List UInt8 := [182, 0, 106, 153, 0, 10, 42, 182, 0, 139, 167, 0, 55, 42, 18, 143, 182, 0, 106, 153, 0, 10, 42]
abbrev dktX6_readBeach_4 : List UInt8 := dkwX6_readBeach_4 ++ dktX6_readBeach_5
def dkwX6_readBeach_3 : List UInt8 := [79, 42, 180, 0, 91, 27, 3, 84, 132, 1, 1, 167, 255, 233, 42, 180, 0, 27, 153, 0, 98, 42, 18, 137]
abbrev dktX6_readBeach_3 : List UInt8 := dkwX6_readBeach_3 ++ dktX6_readBeach_4
def dkwX6_readBeach_2 : List UInt8 := [184, 0, 134, 79, 132, 1, 1, 167, 255, 237, 3, 60, 27, 16, 64, 162, 0, 23, 42, 180, 0, 83, 27, 3]
abbrev dktX6_readBeach_2 : List UInt8 := dkwX6_readBeach_2 ++ dktX6_readBeach_3
def dkwX6_readBeach_1 : List UInt8 := [181, 0, 87, 42, 3, 181, 0, 131, 3, 60, 27, 16, 9, 162, 0, 19, 42, 180, 0, 128, 27, 27]
abbrev dktX6_readBeach_1 : List UInt8 := dkwX6_readBeach_1 ++ dktX6_readBeach_2
def dkwX6_readBeach_0 : List UInt8 := [42, 8, 181, 0, 73, 42, 8, 181, 0, 76, 42, 3, 181, 0, 95, 42, 3, 181, 0, 101, 42, 3]
abbrev dktX6_readBeach_0 : List UInt8 := dkwX6_readBeach_0 ++ dktX6_readBeach_1
theorem dksX6_readBeach_0 : cX6_readBeach.data.toList.drop 0 = dktX6_readBeach_0 := by decide +kernel
theorem dksX6_readBeach_1 : cX6_readBeach.data.toList.drop 22 = dktX6_readBeach_1 := dk_seg dksX6_readBeach_0 22 rfl rfl
theorem dksX6_readBeach_2 : cX6_readBeach.data.toList.drop 44 = dktX6_readBeach_2 := dk_seg dksX6_readBeach_1 22 rfl rfl
theorem dksX6_readBeach_3 : cX6_readBeach.data.toList.drop 68 = dktX6_readBeach_3 := dk_seg dksX6_readBeach_2 24 rfl rfl
theorem dksX6_readBeach_4 : cX6_readBeach.data.toList.drop 92 = dktX6_readBeach_4 := dk_seg dksX6_readBeach_3 24 rfl rfl
theorem dksX6_readBeach_5 : cX6_readBeach.data.toList.drop 115 = dktX6_readBeach_5 := dk_seg dksX6_readBeach_4 23 rfl rfl
theorem dksX6_readBeach_6 : cX6_readBeach.data.toList.drop 138 = dktX6_readBeach_6 := dk_seg dksX6_readBeach_5 23 rfl rfl
theorem dksX6_readBeach_7 : cX6_readBeach.data.toList.drop 162 = dktX6_readBeach_7 := dk_seg dksX6_readBeach_6 24 rfl rfl
theorem dX6_readBeach_0 : decode cX6_readBeach 0 = .ok (.aload_n 0, 1) := dk_42 (dk_at dksX6_readBeach_0 0 rfl rfl)
theorem dX6_readBeach_1 : decode cX6_readBeach 1 = .ok (.iconst 5, 1) := dk_8 (dk_at dksX6_readBeach_0 1 rfl rfl)
theorem dX6_readBeach_2 : decode cX6_readBeach 2 = .ok (.putfield 73, 3) := dk_181 0 73 (dk_at dksX6_readBeach_0 2 rfl rfl)
theorem dX6_readBeach_5 : decode cX6_readBeach 5 = .ok (.aload_n 0, 1) := dk_42 (dk_at dksX6_readBeach_0 5 rfl rfl)
theorem dX6_readBeach_6 : decode cX6_readBeach 6 = .ok (.iconst 5, 1) := dk_8 (dk_at dksX6_readBeach_0 6 rfl rfl)
theorem dX6_readBeach_7 : decode cX6_readBeach 7 = .ok (.putfield 76, 3) := dk_181 0 76 (dk_at dksX6_readBeach_0 7 rfl rfl)
theorem dX6_readBeach_10 : decode cX6_readBeach 10 = .ok (.aload_n 0, 1) := dk_42 (dk_at dksX6_readBeach_0 10 rfl rfl)
theorem dX6_readBeach_11 : decode cX6_readBeach 11 = .ok (.iconst 0, 1) := dk_3 (dk_at dksX6_readBeach_0 11 rfl rfl)
theorem dX6_readBeach_12 : decode cX6_readBeach 12 = .ok (.putfield 95, 3) := dk_181 0 95 (dk_at dksX6_readBeach_0 12 rfl rfl)
theorem dX6_readBeach_15 : decode cX6_readBeach 15 = .ok (.aload_n 0, 1) := dk_42 (dk_at dksX6_readBeach_0 15 rfl rfl)
theorem dX6_readBeach_16 : decode cX6_readBeach 16 = .ok (.iconst 0, 1) := dk_3 (dk_at dksX6_readBeach_0 16 rfl rfl)
theorem dX6_readBeach_17 : decode cX6_readBeach 17 = .ok (.putfield 101, 3) := dk_181 0 101 (dk_at dksX6_readBeach_0 17 rfl rfl)
theorem dX6_readBeach_20 : decode cX6_readBeach 20 = .ok (.aload_n 0, 1) := dk_42 (dk_at dksX6_readBeach_0 20 rfl rfl)
theorem dX6_readBeach_21 : decode cX6_readBeach 21 = .ok (.iconst 0, 1) := dk_3 (dk_at dksX6_readBeach_0 21 rfl rfl)
theorem dX6_readBeach_22 : decode cX6_readBeach 22 = .ok (.putfield 87, 3) := dk_181 0 87 (dk_at dksX6_readBeach_1 0 rfl rfl)
theorem dX6_readBeach_25 : decode cX6_readBeach 25 = .ok (.aload_n 0, 1) := dk_42 (dk_at dksX6_readBeach_1 3 rfl rfl)
theorem dX6_readBeach_26 : decode cX6_readBeach 26 = .ok (.iconst 0, 1) := dk_3 (dk_at dksX6_readBeach_1 4 rfl rfl)
theorem dX6_readBeach_27 : decode cX6_readBeach 27 = .ok (.putfield 131, 3) := dk_181 0 131 (dk_at dksX6_readBeach_1 5 rfl rfl)
theorem dX6_readBeach_30 : decode cX6_readBeach 30 = .ok (.iconst 0, 1) := dk_3 (dk_at dksX6_readBeach_1 8 rfl rfl)
theorem dX6_readBeach_31 : decode cX6_readBeach 31 = .ok (.istore_n 1, 1) := dk_60 (dk_at dksX6_readBeach_1 9 rfl rfl)
theorem dX6_readBeach_32 : decode cX6_readBeach 32 = .ok (.iload_n 1, 1) := dk_27 (dk_at dksX6_readBeach_1 10 rfl rfl)
theorem dX6_readBeach_33 : decode cX6_readBeach 33 = .ok (.bipush 9, 2) := dk_16 9 (dk_at dksX6_readBeach_1 11 rfl rfl)
theorem dX6_readBeach_35 : decode cX6_readBeach 35 = .ok (.if_icmp .ge 19, 3) := dk_162 0 19 (dk_at dksX6_readBeach_1 13 rfl rfl)
theorem dX6_readBeach_38 : decode cX6_readBeach 38 = .ok (.aload_n 0, 1) := dk_42 (dk_at dksX6_readBeach_1 16 rfl rfl)
theorem dX6_readBeach_39 : decode cX6_readBeach 39 = .ok (.getfield 128, 3) := dk_180 0 128 (dk_at dksX6_readBeach_1 17 rfl rfl)
theorem dX6_readBeach_42 : decode cX6_readBeach 42 = .ok (.iload_n 1, 1) := dk_27 (dk_at dksX6_readBeach_1 20 rfl rfl)
theorem dX6_readBeach_43 : decode cX6_readBeach 43 = .ok (.iload_n 1, 1) := dk_27 (dk_at dksX6_readBeach_1 21 rfl rfl)
theorem dX6_readBeach_44 : decode cX6_readBeach 44 = .ok (.invokestatic 134, 3) := dk_184 0 134 (dk_at dksX6_readBeach_2 0 rfl rfl)
theorem dX6_readBeach_47 : decode cX6_readBeach 47 = .ok (.iastore, 1) := dk_79 (dk_at dksX6_readBeach_2 3 rfl rfl)
theorem dX6_readBeach_48 : decode cX6_readBeach 48 = .ok (.iinc 1 1, 3) := dk_132 1 1 (dk_at dksX6_readBeach_2 4 rfl rfl)
theorem dX6_readBeach_51 : decode cX6_readBeach 51 = .ok (.goto (-19), 3) := dk_167 255 237 (dk_at dksX6_readBeach_2 7 rfl rfl)
theorem dX6_readBeach_54 : decode cX6_readBeach 54 = .ok (.iconst 0, 1) := dk_3 (dk_at dksX6_readBeach_2 10 rfl rfl)
theorem dX6_readBeach_55 : decode cX6_readBeach 55 = .ok (.istore_n 1, 1) := dk_60 (dk_at dksX6_readBeach_2 11 rfl rfl)
theorem dX6_readBeach_56 : decode cX6_readBeach 56 = .ok (.iload_n 1, 1) := dk_27 (dk_at dksX6_readBeach_2 12 rfl rfl)
theorem dX6_readBeach_57 : decode cX6_readBeach 57 = .ok (.bipush 64, 2) := dk_16 64 (dk_at dksX6_readBeach_2 13 rfl rfl)
theorem dX6_readBeach_59 : decode cX6_readBeach 59 = .ok (.if_icmp .ge 23, 3) := dk_162 0 23 (dk_at dksX6_readBeach_2 15 rfl rfl)
theorem dX6_readBeach_62 : decode cX6_readBeach 62 = .ok (.aload_n 0, 1) := dk_42 (dk_at dksX6_readBeach_2 18 rfl rfl)
theorem dX6_readBeach_63 : decode cX6_readBeach 63 = .ok (.getfield 83, 3) := dk_180 0 83 (dk_at dksX6_readBeach_2 19 rfl rfl)
theorem dX6_readBeach_66 : decode cX6_readBeach 66 = .ok (.iload_n 1, 1) := dk_27 (dk_at dksX6_readBeach_2 22 rfl rfl)
theorem dX6_readBeach_67 : decode cX6_readBeach 67 = .ok (.iconst 0, 1) := dk_3 (dk_at dksX6_readBeach_2 23 rfl rfl)
theorem dX6_readBeach_68 : decode cX6_readBeach 68 = .ok (.iastore, 1) := dk_79 (dk_at dksX6_readBeach_3 0 rfl rfl)
theorem dX6_readBeach_69 : decode cX6_readBeach 69 = .ok (.aload_n 0, 1) := dk_42 (dk_at dksX6_readBeach_3 1 rfl rfl)
theorem dX6_readBeach_70 : decode cX6_readBeach 70 = .ok (.getfield 91, 3) := dk_180 0 91 (dk_at dksX6_readBeach_3 2 rfl rfl)
theorem dX6_readBeach_73 : decode cX6_readBeach 73 = .ok (.iload_n 1, 1) := dk_27 (dk_at dksX6_readBeach_3 5 rfl rfl)
theorem dX6_readBeach_74 : decode cX6_readBeach 74 = .ok (.iconst 0, 1) := dk_3 (dk_at dksX6_readBeach_3 6 rfl rfl)
theorem dX6_readBeach_75 : decode cX6_readBeach 75 = .ok (.bastore, 1) := dk_84 (dk_at dksX6_readBeach_3 7 rfl rfl)
theorem dX6_readBeach_76 : decode cX6_readBeach 76 = .ok (.iinc 1 1, 3) := dk_132 1 1 (dk_at dksX6_readBeach_3 8 rfl rfl)
theorem dX6_readBeach_79 : decode cX6_readBeach 79 = .ok (.goto (-23), 3) := dk_167 255 233 (dk_at dksX6_readBeach_3 11 rfl rfl)
theorem dX6_readBeach_82 : decode cX6_readBeach 82 = .ok (.aload_n 0, 1) := dk_42 (dk_at dksX6_readBeach_3 14 rfl rfl)
theorem dX6_readBeach_83 : decode cX6_readBeach 83 = .ok (.getfield 27, 3) := dk_180 0 27 (dk_at dksX6_readBeach_3 15 rfl rfl)
theorem dX6_readBeach_86 : decode cX6_readBeach 86 = .ok (.ifCond .eq 98, 3) := dk_153 0 98 (dk_at dksX6_readBeach_3 18 rfl rfl)
theorem dX6_readBeach_89 : decode cX6_readBeach 89 = .ok (.aload_n 0, 1) := dk_42 (dk_at dksX6_readBeach_3 21 rfl rfl)
theorem dX6_readBeach_90 : decode cX6_readBeach 90 = .ok (.ldc 137, 2) := dk_18 137 (dk_at dksX6_readBeach_3 22 rfl rfl)
theorem dX6_readBeach_92 : decode cX6_readBeach 92 = .ok (.invokevirtual 106, 3) := dk_182 0 106 (dk_at dksX6_readBeach_4 0 rfl rfl)
theorem dX6_readBeach_95 : decode cX6_readBeach 95 = .ok (.ifCond .eq 10, 3) := dk_153 0 10 (dk_at dksX6_readBeach_4 3 rfl rfl)
theorem dX6_readBeach_98 : decode cX6_readBeach 98 = .ok (.aload_n 0, 1) := dk_42 (dk_at dksX6_readBeach_4 6 rfl rfl)
theorem dX6_readBeach_99 : decode cX6_readBeach 99 = .ok (.invokevirtual 139, 3) := dk_182 0 139 (dk_at dksX6_readBeach_4 7 rfl rfl)
theorem dX6_readBeach_102 : decode cX6_readBeach 102 = .ok (.goto 55, 3) := dk_167 0 55 (dk_at dksX6_readBeach_4 10 rfl rfl)
theorem dX6_readBeach_105 : decode cX6_readBeach 105 = .ok (.aload_n 0, 1) := dk_42 (dk_at dksX6_readBeach_4 13 rfl rfl)
theorem dX6_readBeach_106 : decode cX6_readBeach 106 = .ok (.ldc 143, 2) := dk_18 143 (dk_at dksX6_readBeach_4 14 rfl rfl)
theorem dX6_readBeach_108 : decode cX6_readBeach 108 = .ok (.invokevirtual 106, 3) := dk_182 0 106 (dk_at dksX6_readBeach_4 16 rfl rfl)
theorem dX6_readBeach_111 : decode cX6_readBeach 111 = .ok (.ifCond .eq 10, 3) := dk_153 0 10 (dk_at dksX6_readBeach_4 19 rfl rfl)
theorem dX6_readBeach_114 : decode cX6_readBeach 114 = .ok (.aload_n 0, 1) := dk_42 (dk_at dksX6_readBeach_4 22 rfl rfl)
theorem dX6_readBeach_115 : decode cX6_readBeach 115 = .ok (.invokevirtual 145, 3) := dk_182 0 145 (dk_at dksX6_readBeach_5 0 rfl rfl)
theorem dX6_readBeach_118 : decode cX6_readBeach 118 = .ok (.goto 39, 3) := dk_167 0 39 (dk_at dksX6_readBeach_5 3 rfl rfl)
theorem dX6_readBeach_121 : decode cX6_readBeach 121 = .ok (.aload_n 0, 1) := dk_42 (dk_at dksX6_readBeach_5 6 rfl rfl)
theorem dX6_readBeach_122 : decode cX6_readBeach 122 = .ok (.ldc 147, 2) := dk_18 147 (dk_at dksX6_readBeach_5 7 rfl rfl)
theorem dX6_readBeach_124 : decode cX6_readBeach 124 = .ok (.invokevirtual 106, 3) := dk_182 0 106 (dk_at dksX6_readBeach_5 9 rfl rfl)
theorem dX6_readBeach_127 : decode cX6_readBeach 127 = .ok (.ifCond .eq 10, 3) := dk_153 0 10 (dk_at dksX6_readBeach_5 12 rfl rfl)
theorem dX6_readBeach_130 : decode cX6_readBeach 130 = .ok (.aload_n 0, 1) := dk_42 (dk_at dksX6_readBeach_5 15 rfl rfl)
theorem dX6_readBeach_131 : decode cX6_readBeach 131 = .ok (.invokevirtual 149, 3) := dk_182 0 149 (dk_at dksX6_readBeach_5 16 rfl rfl)
theorem dX6_readBeach_134 : decode cX6_readBeach 134 = .ok (.goto 23, 3) := dk_167 0 23 (dk_at dksX6_readBeach_5 19 rfl rfl)
theorem dX6_readBeach_137 : decode cX6_readBeach 137 = .ok (.aload_n 0, 1) := dk_42 (dk_at dksX6_readBeach_5 22 rfl rfl)
theorem dX6_readBeach_138 : decode cX6_readBeach 138 = .ok (.ldc 151, 2) := dk_18 151 (dk_at dksX6_readBeach_6 0 rfl rfl)
theorem dX6_readBeach_140 : decode cX6_readBeach 140 = .ok (.invokevirtual 106, 3) := dk_182 0 106 (dk_at dksX6_readBeach_6 2 rfl rfl)
theorem dX6_readBeach_143 : decode cX6_readBeach 143 = .ok (.ifCond .eq 10, 3) := dk_153 0 10 (dk_at dksX6_readBeach_6 5 rfl rfl)
theorem dX6_readBeach_146 : decode cX6_readBeach 146 = .ok (.aload_n 0, 1) := dk_42 (dk_at dksX6_readBeach_6 8 rfl rfl)
theorem dX6_readBeach_147 : decode cX6_readBeach 147 = .ok (.invokevirtual 153, 3) := dk_182 0 153 (dk_at dksX6_readBeach_6 9 rfl rfl)
theorem dX6_readBeach_150 : decode cX6_readBeach 150 = .ok (.goto 7, 3) := dk_167 0 7 (dk_at dksX6_readBeach_6 12 rfl rfl)
theorem dX6_readBeach_153 : decode cX6_readBeach 153 = .ok (.aload_n 0, 1) := dk_42 (dk_at dksX6_readBeach_6 15 rfl rfl)
theorem dX6_readBeach_154 : decode cX6_readBeach 154 = .ok (.invokevirtual 156, 3) := dk_182 0 156 (dk_at dksX6_readBeach_6 16 rfl rfl)
theorem dX6_readBeach_157 : decode cX6_readBeach 157 = .ok (.istore_n 1, 1) := dk_60 (dk_at dksX6_readBeach_6 19 rfl rfl)
theorem dX6_readBeach_158 : decode cX6_readBeach 158 = .ok (.iload_n 1, 1) := dk_27 (dk_at dksX6_readBeach_6 20 rfl rfl)
theorem dX6_readBeach_159 : decode cX6_readBeach 159 = .ok (.ifCond .eq 10, 3) := dk_153 0 10 (dk_at dksX6_readBeach_6 21 rfl rfl)
theorem dX6_readBeach_162 : decode cX6_readBeach 162 = .ok (.aload_n 0, 1) := dk_42 (dk_at dksX6_readBeach_7 0 rfl rfl)
theorem dX6_readBeach_163 : decode cX6_readBeach 163 = .ok (.invokevirtual 159, 3) := dk_182 0 159 (dk_at dksX6_readBeach_7 1 rfl rfl)
theorem dX6_readBeach_166 : decode cX6_readBeach 166 = .ok (.ifCond .ne 5, 3) := dk_154 0 5 (dk_at dksX6_readBeach_7 4 rfl rfl)
theorem dX6_readBeach_169 : decode cX6_readBeach 169 = .ok (.iconst 0, 1) := dk_3 (dk_at dksX6_readBeach_7 7 rfl rfl)
theorem dX6_readBeach_170 : decode cX6_readBeach 170 = .ok (.ireturn, 1) := dk_172 (dk_at dksX6_readBeach_7 8 rfl rfl)
theorem dX6_readBeach_171 : decode cX6_readBeach 171 = .ok (.aload_n 0, 1) := dk_42 (dk_at dksX6_readBeach_7 9 rfl rfl)
theorem dX6_readBeach_172 : decode cX6_readBeach 172 = .ok (.dup, 1) := dk_89 (dk_at dksX6_readBeach_7 10 rfl rfl)
theorem dX6_readBeach_173 : decode cX6_readBeach 173 = .ok (.getfield 131, 3) := dk_180 0 131 (dk_at dksX6_readBeach_7 11 rfl rfl)
theorem dX6_readBeach_176 : decode cX6_readBeach 176 = .ok (.iconst 1, 1) := dk_4 (dk_at dksX6_readBeach_7 14 rfl rfl)
theorem dX6_readBeach_177 : decode cX6_readBeach 177 = .ok (.iadd, 1) := dk_96 (dk_at dksX6_readBeach_7 15 rfl rfl)
theorem dX6_readBeach_178 : decode cX6_readBeach 178 = .ok (.putfield 131, 3) := dk_181 0 131 (dk_at dksX6_readBeach_7 16 rfl rfl)
theorem dX6_readBeach_181 : decode cX6_readBeach 181 = .ok (.goto (-99), 3) := dk_167 255 157 (dk_at dksX6_readBeach_7 19 rfl rfl)
theorem dX6_readBeach_184 : decode cX6_readBeach 184 = .ok (.iconst 1, 1) := dk_4 (dk_at dksX6_readBeach_7 22 rfl rfl)
theorem dX6_readBeach_185 : decode cX6_readBeach 185 = .ok (.ireturn, 1) := dk_172 (dk_at dksX6_readBeach_7 23 rfl rfl)
abbrev cX6_usual : ByteArray := prog_16_method_12_code
def yX6_usual : MethodName := ⟨RX6, "usual", "(I)I"⟩
def dkwX6_usual_2 : List UInt8 := [16, 6, 172, 5, 172, 16, 10, 172, 7, 172, 3, 172, 4, 172]
abbrev dktX6_usual_2 : List UInt8 := dkwX6_usual_2 ++ []
def dkwX6_usual_1 : List UInt8 := [170, 0, 0, 0, 0, 0, 59, 0, 0, 0, 0, 0, 0, 0, 7, 0, 0, 0, 47, 0, 0, 0, 50, 0, 0, 0, 52, 0, 0, 0, 55, 0, 0, 0, 59, 0, 0, 0, 57, 0, 0, 0, 55, 0, 0, 0, 47]
abbrev dktX6_usual_1 : List UInt8 := dkwX6_usual_1 ++ dktX6_usual_2
def dkwX6_usual_0 : List UInt8 := [26]
abbrev dktX6_usual_0 : List UInt8 := dkwX6_usual_0 ++ dktX6_usual_1
theorem dksX6_usual_0 : cX6_usual.data.toList.drop 0 = dktX6_usual_0 := by decide +kernel
theorem dksX6_usual_1 : cX6_usual.data.toList.drop 1 = dktX6_usual_1 := dk_seg dksX6_usual_0 1 rfl rfl
theorem dksX6_usual_2 : cX6_usual.data.toList.drop 48 = dktX6_usual_2 := dk_seg dksX6_usual_1 47 rfl rfl
theorem dX6_usual_0 : decode cX6_usual 0 = .ok (.iload_n 0, 1) := dk_26 (dk_at dksX6_usual_0 0 rfl rfl)
theorem dX6_usual_1 : decode cX6_usual 1 = .ok (.tableswitch 59 0 7 #[47, 50, 52, 55, 59, 57, 55, 47], 47) := by decide +kernel
theorem dX6_usual_48 : decode cX6_usual 48 = .ok (.bipush 6, 2) := dk_16 6 (dk_at dksX6_usual_2 0 rfl rfl)
theorem dX6_usual_50 : decode cX6_usual 50 = .ok (.ireturn, 1) := dk_172 (dk_at dksX6_usual_2 2 rfl rfl)
theorem dX6_usual_51 : decode cX6_usual 51 = .ok (.iconst 2, 1) := dk_5 (dk_at dksX6_usual_2 3 rfl rfl)
theorem dX6_usual_52 : decode cX6_usual 52 = .ok (.ireturn, 1) := dk_172 (dk_at dksX6_usual_2 4 rfl rfl)
theorem dX6_usual_53 : decode cX6_usual 53 = .ok (.bipush 10, 2) := dk_16 10 (dk_at dksX6_usual_2 5 rfl rfl)
theorem dX6_usual_55 : decode cX6_usual 55 = .ok (.ireturn, 1) := dk_172 (dk_at dksX6_usual_2 7 rfl rfl)
theorem dX6_usual_56 : decode cX6_usual 56 = .ok (.iconst 4, 1) := dk_7 (dk_at dksX6_usual_2 8 rfl rfl)
theorem dX6_usual_57 : decode cX6_usual 57 = .ok (.ireturn, 1) := dk_172 (dk_at dksX6_usual_2 9 rfl rfl)
theorem dX6_usual_58 : decode cX6_usual 58 = .ok (.iconst 0, 1) := dk_3 (dk_at dksX6_usual_2 10 rfl rfl)
theorem dX6_usual_59 : decode cX6_usual 59 = .ok (.ireturn, 1) := dk_172 (dk_at dksX6_usual_2 11 rfl rfl)
theorem dX6_usual_60 : decode cX6_usual 60 = .ok (.iconst 1, 1) := dk_4 (dk_at dksX6_usual_2 12 rfl rfl)
theorem dX6_usual_61 : decode cX6_usual 61 = .ok (.ireturn, 1) := dk_172 (dk_at dksX6_usual_2 13 rfl rfl)
abbrev cX6_is : ByteArray := prog_16_method_7_code
def yX6_is : MethodName := ⟨RX6, "is", "(Ljava/lang/String;)Z"⟩
def dkwX6_is_3 : List UInt8 := [167, 255, 216, 28, 172]
abbrev dktX6_is_3 : List UInt8 := dkwX6_is_3 ++ []
def dkwX6_is_2 : List UInt8 := [42, 180, 0, 7, 29, 96, 51, 43, 29, 182, 0, 45, 160, 0, 7, 4, 167, 0, 4, 3, 61, 132, 3, 1]
abbrev dktX6_is_2 : List UInt8 := dkwX6_is_2 ++ dktX6_is_3
def dkwX6_is_1 : List UInt8 := [4, 167, 0, 4, 3, 61, 3, 62, 29, 43, 182, 0, 40, 162, 0, 38, 28, 153, 0, 34, 42, 180, 0, 16]
abbrev dktX6_is_1 : List UInt8 := dkwX6_is_1 ++ dktX6_is_2
def dkwX6_is_0 : List UInt8 := [42, 180, 0, 27, 4, 160, 0, 23, 42, 180, 0, 20, 42, 180, 0, 7, 100, 43, 182, 0, 40, 160, 0, 7]
abbrev dktX6_is_0 : List UInt8 := dkwX6_is_0 ++ dktX6_is_1
theorem dksX6_is_0 : cX6_is.data.toList.drop 0 = dktX6_is_0 := by decide +kernel
theorem dksX6_is_1 : cX6_is.data.toList.drop 24 = dktX6_is_1 := dk_seg dksX6_is_0 24 rfl rfl
theorem dksX6_is_2 : cX6_is.data.toList.drop 48 = dktX6_is_2 := dk_seg dksX6_is_1 24 rfl rfl
theorem dksX6_is_3 : cX6_is.data.toList.drop 72 = dktX6_is_3 := dk_seg dksX6_is_2 24 rfl rfl
theorem dX6_is_0 : decode cX6_is 0 = .ok (.aload_n 0, 1) := dk_42 (dk_at dksX6_is_0 0 rfl rfl)
theorem dX6_is_1 : decode cX6_is 1 = .ok (.getfield 27, 3) := dk_180 0 27 (dk_at dksX6_is_0 1 rfl rfl)
theorem dX6_is_4 : decode cX6_is 4 = .ok (.iconst 1, 1) := dk_4 (dk_at dksX6_is_0 4 rfl rfl)
theorem dX6_is_5 : decode cX6_is 5 = .ok (.if_icmp .ne 23, 3) := dk_160 0 23 (dk_at dksX6_is_0 5 rfl rfl)
theorem dX6_is_8 : decode cX6_is 8 = .ok (.aload_n 0, 1) := dk_42 (dk_at dksX6_is_0 8 rfl rfl)
theorem dX6_is_9 : decode cX6_is 9 = .ok (.getfield 20, 3) := dk_180 0 20 (dk_at dksX6_is_0 9 rfl rfl)
theorem dX6_is_12 : decode cX6_is 12 = .ok (.aload_n 0, 1) := dk_42 (dk_at dksX6_is_0 12 rfl rfl)
theorem dX6_is_13 : decode cX6_is 13 = .ok (.getfield 7, 3) := dk_180 0 7 (dk_at dksX6_is_0 13 rfl rfl)
theorem dX6_is_16 : decode cX6_is 16 = .ok (.isub, 1) := dk_100 (dk_at dksX6_is_0 16 rfl rfl)
theorem dX6_is_17 : decode cX6_is 17 = .ok (.aload_n 1, 1) := dk_43 (dk_at dksX6_is_0 17 rfl rfl)
theorem dX6_is_18 : decode cX6_is 18 = .ok (.invokevirtual 40, 3) := dk_182 0 40 (dk_at dksX6_is_0 18 rfl rfl)
theorem dX6_is_21 : decode cX6_is 21 = .ok (.if_icmp .ne 7, 3) := dk_160 0 7 (dk_at dksX6_is_0 21 rfl rfl)
theorem dX6_is_24 : decode cX6_is 24 = .ok (.iconst 1, 1) := dk_4 (dk_at dksX6_is_1 0 rfl rfl)
theorem dX6_is_25 : decode cX6_is 25 = .ok (.goto 4, 3) := dk_167 0 4 (dk_at dksX6_is_1 1 rfl rfl)
theorem dX6_is_28 : decode cX6_is 28 = .ok (.iconst 0, 1) := dk_3 (dk_at dksX6_is_1 4 rfl rfl)
theorem dX6_is_29 : decode cX6_is 29 = .ok (.istore_n 2, 1) := dk_61 (dk_at dksX6_is_1 5 rfl rfl)
theorem dX6_is_30 : decode cX6_is 30 = .ok (.iconst 0, 1) := dk_3 (dk_at dksX6_is_1 6 rfl rfl)
theorem dX6_is_31 : decode cX6_is 31 = .ok (.istore_n 3, 1) := dk_62 (dk_at dksX6_is_1 7 rfl rfl)
theorem dX6_is_32 : decode cX6_is 32 = .ok (.iload_n 3, 1) := dk_29 (dk_at dksX6_is_1 8 rfl rfl)
theorem dX6_is_33 : decode cX6_is 33 = .ok (.aload_n 1, 1) := dk_43 (dk_at dksX6_is_1 9 rfl rfl)
theorem dX6_is_34 : decode cX6_is 34 = .ok (.invokevirtual 40, 3) := dk_182 0 40 (dk_at dksX6_is_1 10 rfl rfl)
theorem dX6_is_37 : decode cX6_is 37 = .ok (.if_icmp .ge 38, 3) := dk_162 0 38 (dk_at dksX6_is_1 13 rfl rfl)
theorem dX6_is_40 : decode cX6_is 40 = .ok (.iload_n 2, 1) := dk_28 (dk_at dksX6_is_1 16 rfl rfl)
theorem dX6_is_41 : decode cX6_is 41 = .ok (.ifCond .eq 34, 3) := dk_153 0 34 (dk_at dksX6_is_1 17 rfl rfl)
theorem dX6_is_44 : decode cX6_is 44 = .ok (.aload_n 0, 1) := dk_42 (dk_at dksX6_is_1 20 rfl rfl)
theorem dX6_is_45 : decode cX6_is 45 = .ok (.getfield 16, 3) := dk_180 0 16 (dk_at dksX6_is_1 21 rfl rfl)
theorem dX6_is_48 : decode cX6_is 48 = .ok (.aload_n 0, 1) := dk_42 (dk_at dksX6_is_2 0 rfl rfl)
theorem dX6_is_49 : decode cX6_is 49 = .ok (.getfield 7, 3) := dk_180 0 7 (dk_at dksX6_is_2 1 rfl rfl)
theorem dX6_is_52 : decode cX6_is 52 = .ok (.iload_n 3, 1) := dk_29 (dk_at dksX6_is_2 4 rfl rfl)
theorem dX6_is_53 : decode cX6_is 53 = .ok (.iadd, 1) := dk_96 (dk_at dksX6_is_2 5 rfl rfl)
theorem dX6_is_54 : decode cX6_is 54 = .ok (.baload, 1) := dk_51 (dk_at dksX6_is_2 6 rfl rfl)
theorem dX6_is_55 : decode cX6_is 55 = .ok (.aload_n 1, 1) := dk_43 (dk_at dksX6_is_2 7 rfl rfl)
theorem dX6_is_56 : decode cX6_is 56 = .ok (.iload_n 3, 1) := dk_29 (dk_at dksX6_is_2 8 rfl rfl)
theorem dX6_is_57 : decode cX6_is 57 = .ok (.invokevirtual 45, 3) := dk_182 0 45 (dk_at dksX6_is_2 9 rfl rfl)
theorem dX6_is_60 : decode cX6_is 60 = .ok (.if_icmp .ne 7, 3) := dk_160 0 7 (dk_at dksX6_is_2 12 rfl rfl)
theorem dX6_is_63 : decode cX6_is 63 = .ok (.iconst 1, 1) := dk_4 (dk_at dksX6_is_2 15 rfl rfl)
theorem dX6_is_64 : decode cX6_is 64 = .ok (.goto 4, 3) := dk_167 0 4 (dk_at dksX6_is_2 16 rfl rfl)
theorem dX6_is_67 : decode cX6_is 67 = .ok (.iconst 0, 1) := dk_3 (dk_at dksX6_is_2 19 rfl rfl)
theorem dX6_is_68 : decode cX6_is 68 = .ok (.istore_n 2, 1) := dk_61 (dk_at dksX6_is_2 20 rfl rfl)
theorem dX6_is_69 : decode cX6_is 69 = .ok (.iinc 3 1, 3) := dk_132 3 1 (dk_at dksX6_is_2 21 rfl rfl)
theorem dX6_is_72 : decode cX6_is 72 = .ok (.goto (-40), 3) := dk_167 255 216 (dk_at dksX6_is_3 0 rfl rfl)
theorem dX6_is_75 : decode cX6_is 75 = .ok (.iload_n 2, 1) := dk_28 (dk_at dksX6_is_3 3 rfl rfl)
theorem dX6_is_76 : decode cX6_is 76 = .ok (.ireturn, 1) := dk_172 (dk_at dksX6_is_3 4 rfl rfl)
abbrev cX6_readShape : ByteArray := prog_16_method_18_code
def yX6_readShape : MethodName := ⟨RX6, "readShape", "()Z"⟩
def dkwX6_readShape_3 : List UInt8 := [154, 0, 5, 3, 172, 42, 42, 180, 0, 56, 181, 0, 76, 4, 172]
abbrev dktX6_readShape_3 : List UInt8 := dkwX6_readShape_3 ++ []
def dkwX6_readShape_2 : List UInt8 := [182, 0, 70, 154, 0, 5, 3, 172, 42, 42, 180, 0, 56, 181, 0, 73, 42, 4, 16, 8, 182, 0, 70]
abbrev dktX6_readShape_2 : List UInt8 := dkwX6_readShape_2 ++ dktX6_readShape_3
def dkwX6_readShape_1 : List UInt8 := [8, 182, 0, 49, 172, 42, 89, 180, 0, 101, 4, 128, 181, 0, 101, 42, 182, 0, 63, 42, 4, 16, 8]
abbrev dktX6_readShape_1 : List UInt8 := dkwX6_readShape_1 ++ dktX6_readShape_2
def dkwX6_readShape_0 : List UInt8 := [42, 180, 0, 101, 4, 126, 4, 160, 0, 9, 42, 6, 182, 0, 49, 172, 42, 180, 0, 87, 153, 0, 9, 42]
abbrev dktX6_readShape_0 : List UInt8 := dkwX6_readShape_0 ++ dktX6_readShape_1
theorem dksX6_readShape_0 : cX6_readShape.data.toList.drop 0 = dktX6_readShape_0 := by decide +kernel
theorem dksX6_readShape_1 : cX6_readShape.data.toList.drop 24 = dktX6_readShape_1 := dk_seg dksX6_readShape_0 24 rfl rfl
theorem dksX6_readShape_2 : cX6_readShape.data.toList.drop 47 = dktX6_readShape_2 := dk_seg dksX6_readShape_1 23 rfl rfl
theorem dksX6_readShape_3 : cX6_readShape.data.toList.drop 70 = dktX6_readShape_3 := dk_seg dksX6_readShape_2 23 rfl rfl
theorem dX6_readShape_0 : decode cX6_readShape 0 = .ok (.aload_n 0, 1) := dk_42 (dk_at dksX6_readShape_0 0 rfl rfl)
theorem dX6_readShape_1 : decode cX6_readShape 1 = .ok (.getfield 101, 3) := dk_180 0 101 (dk_at dksX6_readShape_0 1 rfl rfl)
theorem dX6_readShape_4 : decode cX6_readShape 4 = .ok (.iconst 1, 1) := dk_4 (dk_at dksX6_readShape_0 4 rfl rfl)
theorem dX6_readShape_5 : decode cX6_readShape 5 = .ok (.iand, 1) := dk_126 (dk_at dksX6_readShape_0 5 rfl rfl)
theorem dX6_readShape_6 : decode cX6_readShape 6 = .ok (.iconst 1, 1) := dk_4 (dk_at dksX6_readShape_0 6 rfl rfl)
theorem dX6_readShape_7 : decode cX6_readShape 7 = .ok (.if_icmp .ne 9, 3) := dk_160 0 9 (dk_at dksX6_readShape_0 7 rfl rfl)
theorem dX6_readShape_10 : decode cX6_readShape 10 = .ok (.aload_n 0, 1) := dk_42 (dk_at dksX6_readShape_0 10 rfl rfl)
theorem dX6_readShape_11 : decode cX6_readShape 11 = .ok (.iconst 3, 1) := dk_6 (dk_at dksX6_readShape_0 11 rfl rfl)
theorem dX6_readShape_12 : decode cX6_readShape 12 = .ok (.invokevirtual 49, 3) := dk_182 0 49 (dk_at dksX6_readShape_0 12 rfl rfl)
theorem dX6_readShape_15 : decode cX6_readShape 15 = .ok (.ireturn, 1) := dk_172 (dk_at dksX6_readShape_0 15 rfl rfl)
theorem dX6_readShape_16 : decode cX6_readShape 16 = .ok (.aload_n 0, 1) := dk_42 (dk_at dksX6_readShape_0 16 rfl rfl)
theorem dX6_readShape_17 : decode cX6_readShape 17 = .ok (.getfield 87, 3) := dk_180 0 87 (dk_at dksX6_readShape_0 17 rfl rfl)
theorem dX6_readShape_20 : decode cX6_readShape 20 = .ok (.ifCond .eq 9, 3) := dk_153 0 9 (dk_at dksX6_readShape_0 20 rfl rfl)
theorem dX6_readShape_23 : decode cX6_readShape 23 = .ok (.aload_n 0, 1) := dk_42 (dk_at dksX6_readShape_0 23 rfl rfl)
theorem dX6_readShape_24 : decode cX6_readShape 24 = .ok (.iconst 5, 1) := dk_8 (dk_at dksX6_readShape_1 0 rfl rfl)
theorem dX6_readShape_25 : decode cX6_readShape 25 = .ok (.invokevirtual 49, 3) := dk_182 0 49 (dk_at dksX6_readShape_1 1 rfl rfl)
theorem dX6_readShape_28 : decode cX6_readShape 28 = .ok (.ireturn, 1) := dk_172 (dk_at dksX6_readShape_1 4 rfl rfl)
theorem dX6_readShape_29 : decode cX6_readShape 29 = .ok (.aload_n 0, 1) := dk_42 (dk_at dksX6_readShape_1 5 rfl rfl)
theorem dX6_readShape_30 : decode cX6_readShape 30 = .ok (.dup, 1) := dk_89 (dk_at dksX6_readShape_1 6 rfl rfl)
theorem dX6_readShape_31 : decode cX6_readShape 31 = .ok (.getfield 101, 3) := dk_180 0 101 (dk_at dksX6_readShape_1 7 rfl rfl)
theorem dX6_readShape_34 : decode cX6_readShape 34 = .ok (.iconst 1, 1) := dk_4 (dk_at dksX6_readShape_1 10 rfl rfl)
theorem dX6_readShape_35 : decode cX6_readShape 35 = .ok (.ior, 1) := dk_128 (dk_at dksX6_readShape_1 11 rfl rfl)
theorem dX6_readShape_36 : decode cX6_readShape 36 = .ok (.putfield 101, 3) := dk_181 0 101 (dk_at dksX6_readShape_1 12 rfl rfl)
theorem dX6_readShape_39 : decode cX6_readShape 39 = .ok (.aload_n 0, 1) := dk_42 (dk_at dksX6_readShape_1 15 rfl rfl)
theorem dX6_readShape_40 : decode cX6_readShape 40 = .ok (.invokevirtual 63, 3) := dk_182 0 63 (dk_at dksX6_readShape_1 16 rfl rfl)
theorem dX6_readShape_43 : decode cX6_readShape 43 = .ok (.aload_n 0, 1) := dk_42 (dk_at dksX6_readShape_1 19 rfl rfl)
theorem dX6_readShape_44 : decode cX6_readShape 44 = .ok (.iconst 1, 1) := dk_4 (dk_at dksX6_readShape_1 20 rfl rfl)
theorem dX6_readShape_45 : decode cX6_readShape 45 = .ok (.bipush 8, 2) := dk_16 8 (dk_at dksX6_readShape_1 21 rfl rfl)
theorem dX6_readShape_47 : decode cX6_readShape 47 = .ok (.invokevirtual 70, 3) := dk_182 0 70 (dk_at dksX6_readShape_2 0 rfl rfl)
theorem dX6_readShape_50 : decode cX6_readShape 50 = .ok (.ifCond .ne 5, 3) := dk_154 0 5 (dk_at dksX6_readShape_2 3 rfl rfl)
theorem dX6_readShape_53 : decode cX6_readShape 53 = .ok (.iconst 0, 1) := dk_3 (dk_at dksX6_readShape_2 6 rfl rfl)
theorem dX6_readShape_54 : decode cX6_readShape 54 = .ok (.ireturn, 1) := dk_172 (dk_at dksX6_readShape_2 7 rfl rfl)
theorem dX6_readShape_55 : decode cX6_readShape 55 = .ok (.aload_n 0, 1) := dk_42 (dk_at dksX6_readShape_2 8 rfl rfl)
theorem dX6_readShape_56 : decode cX6_readShape 56 = .ok (.aload_n 0, 1) := dk_42 (dk_at dksX6_readShape_2 9 rfl rfl)
theorem dX6_readShape_57 : decode cX6_readShape 57 = .ok (.getfield 56, 3) := dk_180 0 56 (dk_at dksX6_readShape_2 10 rfl rfl)
theorem dX6_readShape_60 : decode cX6_readShape 60 = .ok (.putfield 73, 3) := dk_181 0 73 (dk_at dksX6_readShape_2 13 rfl rfl)
theorem dX6_readShape_63 : decode cX6_readShape 63 = .ok (.aload_n 0, 1) := dk_42 (dk_at dksX6_readShape_2 16 rfl rfl)
theorem dX6_readShape_64 : decode cX6_readShape 64 = .ok (.iconst 1, 1) := dk_4 (dk_at dksX6_readShape_2 17 rfl rfl)
theorem dX6_readShape_65 : decode cX6_readShape 65 = .ok (.bipush 8, 2) := dk_16 8 (dk_at dksX6_readShape_2 18 rfl rfl)
theorem dX6_readShape_67 : decode cX6_readShape 67 = .ok (.invokevirtual 70, 3) := dk_182 0 70 (dk_at dksX6_readShape_2 20 rfl rfl)
theorem dX6_readShape_70 : decode cX6_readShape 70 = .ok (.ifCond .ne 5, 3) := dk_154 0 5 (dk_at dksX6_readShape_3 0 rfl rfl)
theorem dX6_readShape_73 : decode cX6_readShape 73 = .ok (.iconst 0, 1) := dk_3 (dk_at dksX6_readShape_3 3 rfl rfl)
theorem dX6_readShape_74 : decode cX6_readShape 74 = .ok (.ireturn, 1) := dk_172 (dk_at dksX6_readShape_3 4 rfl rfl)
theorem dX6_readShape_75 : decode cX6_readShape 75 = .ok (.aload_n 0, 1) := dk_42 (dk_at dksX6_readShape_3 5 rfl rfl)
theorem dX6_readShape_76 : decode cX6_readShape 76 = .ok (.aload_n 0, 1) := dk_42 (dk_at dksX6_readShape_3 6 rfl rfl)
theorem dX6_readShape_77 : decode cX6_readShape 77 = .ok (.getfield 56, 3) := dk_180 0 56 (dk_at dksX6_readShape_3 7 rfl rfl)
theorem dX6_readShape_80 : decode cX6_readShape 80 = .ok (.putfield 76, 3) := dk_181 0 76 (dk_at dksX6_readShape_3 10 rfl rfl)
theorem dX6_readShape_83 : decode cX6_readShape 83 = .ok (.iconst 1, 1) := dk_4 (dk_at dksX6_readShape_3 13 rfl rfl)
theorem dX6_readShape_84 : decode cX6_readShape 84 = .ok (.ireturn, 1) := dk_172 (dk_at dksX6_readShape_3 14 rfl rfl)
abbrev cX6_bad : ByteArray := prog_16_method_2_code
def yX6_bad : MethodName := ⟨RX6, "bad", "(I)Z"⟩
def dkwX6_bad_0 : List UInt8 := [42, 27, 181, 0, 1, 42, 42, 180, 0, 7, 181, 0, 10, 3, 172]
abbrev dktX6_bad_0 : List UInt8 := dkwX6_bad_0 ++ []
theorem dksX6_bad_0 : cX6_bad.data.toList.drop 0 = dktX6_bad_0 := by decide +kernel
theorem dX6_bad_0 : decode cX6_bad 0 = .ok (.aload_n 0, 1) := dk_42 (dk_at dksX6_bad_0 0 rfl rfl)
theorem dX6_bad_1 : decode cX6_bad 1 = .ok (.iload_n 1, 1) := dk_27 (dk_at dksX6_bad_0 1 rfl rfl)
theorem dX6_bad_2 : decode cX6_bad 2 = .ok (.putfield 1, 3) := dk_181 0 1 (dk_at dksX6_bad_0 2 rfl rfl)
theorem dX6_bad_5 : decode cX6_bad 5 = .ok (.aload_n 0, 1) := dk_42 (dk_at dksX6_bad_0 5 rfl rfl)
theorem dX6_bad_6 : decode cX6_bad 6 = .ok (.aload_n 0, 1) := dk_42 (dk_at dksX6_bad_0 6 rfl rfl)
theorem dX6_bad_7 : decode cX6_bad 7 = .ok (.getfield 7, 3) := dk_180 0 7 (dk_at dksX6_bad_0 7 rfl rfl)
theorem dX6_bad_10 : decode cX6_bad 10 = .ok (.putfield 10, 3) := dk_181 0 10 (dk_at dksX6_bad_0 10 rfl rfl)
theorem dX6_bad_13 : decode cX6_bad 13 = .ok (.iconst 0, 1) := dk_3 (dk_at dksX6_bad_0 13 rfl rfl)
theorem dX6_bad_14 : decode cX6_bad 14 = .ok (.ireturn, 1) := dk_172 (dk_at dksX6_bad_0 14 rfl rfl)
abbrev cX6_number : ByteArray := prog_16_method_9_code
def yX6_number : MethodName := ⟨RX6, "number", "(II)Z"⟩
def dkwX6_number_0 : List UInt8 := [42, 27, 28, 182, 0, 59, 154, 0, 5, 3, 172, 42, 182, 0, 63, 4, 172]
abbrev dktX6_number_0 : List UInt8 := dkwX6_number_0 ++ []
theorem dksX6_number_0 : cX6_number.data.toList.drop 0 = dktX6_number_0 := by decide +kernel
theorem dX6_number_0 : decode cX6_number 0 = .ok (.aload_n 0, 1) := dk_42 (dk_at dksX6_number_0 0 rfl rfl)
theorem dX6_number_1 : decode cX6_number 1 = .ok (.iload_n 1, 1) := dk_27 (dk_at dksX6_number_0 1 rfl rfl)
theorem dX6_number_2 : decode cX6_number 2 = .ok (.iload_n 2, 1) := dk_28 (dk_at dksX6_number_0 2 rfl rfl)
theorem dX6_number_3 : decode cX6_number 3 = .ok (.invokevirtual 59, 3) := dk_182 0 59 (dk_at dksX6_number_0 3 rfl rfl)
theorem dX6_number_6 : decode cX6_number 6 = .ok (.ifCond .ne 5, 3) := dk_154 0 5 (dk_at dksX6_number_0 6 rfl rfl)
theorem dX6_number_9 : decode cX6_number 9 = .ok (.iconst 0, 1) := dk_3 (dk_at dksX6_number_0 9 rfl rfl)
theorem dX6_number_10 : decode cX6_number 10 = .ok (.ireturn, 1) := dk_172 (dk_at dksX6_number_0 10 rfl rfl)
theorem dX6_number_11 : decode cX6_number 11 = .ok (.aload_n 0, 1) := dk_42 (dk_at dksX6_number_0 11 rfl rfl)
theorem dX6_number_12 : decode cX6_number 12 = .ok (.invokevirtual 63, 3) := dk_182 0 63 (dk_at dksX6_number_0 12 rfl rfl)
theorem dX6_number_15 : decode cX6_number 15 = .ok (.iconst 1, 1) := dk_4 (dk_at dksX6_number_0 15 rfl rfl)
theorem dX6_number_16 : decode cX6_number 16 = .ok (.ireturn, 1) := dk_172 (dk_at dksX6_number_0 16 rfl rfl)
abbrev cX6_peek : ByteArray := prog_16_method_8_code
def yX6_peek : MethodName := ⟨RX6, "peek", "(II)Z"⟩
def dkwX6_peek_1 : List UInt8 := [184, 0, 52, 154, 0, 9, 42, 5, 182, 0, 49, 172, 42, 42, 180, 0, 37, 181, 0, 56, 4, 172]
abbrev dktX6_peek_1 : List UInt8 := dkwX6_peek_1 ++ []
def dkwX6_peek_0 : List UInt8 := [42, 180, 0, 27, 5, 159, 0, 9, 42, 4, 182, 0, 49, 172, 42, 180, 0, 37, 133, 27, 133, 28, 133]
abbrev dktX6_peek_0 : List UInt8 := dkwX6_peek_0 ++ dktX6_peek_1
theorem dksX6_peek_0 : cX6_peek.data.toList.drop 0 = dktX6_peek_0 := by decide +kernel
theorem dksX6_peek_1 : cX6_peek.data.toList.drop 23 = dktX6_peek_1 := dk_seg dksX6_peek_0 23 rfl rfl
theorem dX6_peek_0 : decode cX6_peek 0 = .ok (.aload_n 0, 1) := dk_42 (dk_at dksX6_peek_0 0 rfl rfl)
theorem dX6_peek_1 : decode cX6_peek 1 = .ok (.getfield 27, 3) := dk_180 0 27 (dk_at dksX6_peek_0 1 rfl rfl)
theorem dX6_peek_4 : decode cX6_peek 4 = .ok (.iconst 2, 1) := dk_5 (dk_at dksX6_peek_0 4 rfl rfl)
theorem dX6_peek_5 : decode cX6_peek 5 = .ok (.if_icmp .eq 9, 3) := dk_159 0 9 (dk_at dksX6_peek_0 5 rfl rfl)
theorem dX6_peek_8 : decode cX6_peek 8 = .ok (.aload_n 0, 1) := dk_42 (dk_at dksX6_peek_0 8 rfl rfl)
theorem dX6_peek_9 : decode cX6_peek 9 = .ok (.iconst 1, 1) := dk_4 (dk_at dksX6_peek_0 9 rfl rfl)
theorem dX6_peek_10 : decode cX6_peek 10 = .ok (.invokevirtual 49, 3) := dk_182 0 49 (dk_at dksX6_peek_0 10 rfl rfl)
theorem dX6_peek_13 : decode cX6_peek 13 = .ok (.ireturn, 1) := dk_172 (dk_at dksX6_peek_0 13 rfl rfl)
theorem dX6_peek_14 : decode cX6_peek 14 = .ok (.aload_n 0, 1) := dk_42 (dk_at dksX6_peek_0 14 rfl rfl)
theorem dX6_peek_15 : decode cX6_peek 15 = .ok (.getfield 37, 3) := dk_180 0 37 (dk_at dksX6_peek_0 15 rfl rfl)
theorem dX6_peek_18 : decode cX6_peek 18 = .ok (.i2l, 1) := dk_133 (dk_at dksX6_peek_0 18 rfl rfl)
theorem dX6_peek_19 : decode cX6_peek 19 = .ok (.iload_n 1, 1) := dk_27 (dk_at dksX6_peek_0 19 rfl rfl)
theorem dX6_peek_20 : decode cX6_peek 20 = .ok (.i2l, 1) := dk_133 (dk_at dksX6_peek_0 20 rfl rfl)
theorem dX6_peek_21 : decode cX6_peek 21 = .ok (.iload_n 2, 1) := dk_28 (dk_at dksX6_peek_0 21 rfl rfl)
theorem dX6_peek_22 : decode cX6_peek 22 = .ok (.i2l, 1) := dk_133 (dk_at dksX6_peek_0 22 rfl rfl)
theorem dX6_peek_23 : decode cX6_peek 23 = .ok (.invokestatic 52, 3) := dk_184 0 52 (dk_at dksX6_peek_1 0 rfl rfl)
theorem dX6_peek_26 : decode cX6_peek 26 = .ok (.ifCond .ne 9, 3) := dk_154 0 9 (dk_at dksX6_peek_1 3 rfl rfl)
theorem dX6_peek_29 : decode cX6_peek 29 = .ok (.aload_n 0, 1) := dk_42 (dk_at dksX6_peek_1 6 rfl rfl)
theorem dX6_peek_30 : decode cX6_peek 30 = .ok (.iconst 2, 1) := dk_5 (dk_at dksX6_peek_1 7 rfl rfl)
theorem dX6_peek_31 : decode cX6_peek 31 = .ok (.invokevirtual 49, 3) := dk_182 0 49 (dk_at dksX6_peek_1 8 rfl rfl)
theorem dX6_peek_34 : decode cX6_peek 34 = .ok (.ireturn, 1) := dk_172 (dk_at dksX6_peek_1 11 rfl rfl)
theorem dX6_peek_35 : decode cX6_peek 35 = .ok (.aload_n 0, 1) := dk_42 (dk_at dksX6_peek_1 12 rfl rfl)
theorem dX6_peek_36 : decode cX6_peek 36 = .ok (.aload_n 0, 1) := dk_42 (dk_at dksX6_peek_1 13 rfl rfl)
theorem dX6_peek_37 : decode cX6_peek 37 = .ok (.getfield 37, 3) := dk_180 0 37 (dk_at dksX6_peek_1 14 rfl rfl)
theorem dX6_peek_40 : decode cX6_peek 40 = .ok (.putfield 56, 3) := dk_181 0 56 (dk_at dksX6_peek_1 17 rfl rfl)
theorem dX6_peek_43 : decode cX6_peek 43 = .ok (.iconst 1, 1) := dk_4 (dk_at dksX6_peek_1 20 rfl rfl)
theorem dX6_peek_44 : decode cX6_peek 44 = .ok (.ireturn, 1) := dk_172 (dk_at dksX6_peek_1 21 rfl rfl)
abbrev cX6_readHeap : ByteArray := prog_16_method_15_code
def yX6_readHeap : MethodName := ⟨RX6, "readHeap", "()Z"⟩
def dkwX6_readHeap_4 : List UInt8 := [42, 182, 0, 63, 4, 172]
abbrev dktX6_readHeap_4 : List UInt8 := dkwX6_readHeap_4 ++ []
def dkwX6_readHeap_3 : List UInt8 := [42, 5, 182, 0, 49, 172, 42, 180, 0, 83, 42, 180, 0, 56, 92, 46, 27, 96, 79, 42, 4, 181, 0, 87]
abbrev dktX6_readHeap_3 : List UInt8 := dkwX6_readHeap_3 ++ dktX6_readHeap_4
def dkwX6_readHeap_2 : List UInt8 := [182, 0, 79, 154, 0, 5, 3, 172, 42, 180, 0, 83, 42, 180, 0, 56, 46, 27, 96, 16, 59, 164, 0, 9]
abbrev dktX6_readHeap_2 : List UInt8 := dkwX6_readHeap_2 ++ dktX6_readHeap_3
def dkwX6_readHeap_1 : List UInt8 := [180, 0, 73, 4, 100, 182, 0, 70, 153, 0, 22, 42, 42, 180, 0, 56, 42, 180, 0, 73, 42, 180, 0, 76]
abbrev dktX6_readHeap_1 : List UInt8 := dkwX6_readHeap_1 ++ dktX6_readHeap_2
def dkwX6_readHeap_0 : List UInt8 := [42, 182, 0, 63, 42, 4, 16, 40, 182, 0, 70, 154, 0, 5, 3, 172, 42, 180, 0, 56, 60, 42, 3, 42]
abbrev dktX6_readHeap_0 : List UInt8 := dkwX6_readHeap_0 ++ dktX6_readHeap_1
theorem dksX6_readHeap_0 : cX6_readHeap.data.toList.drop 0 = dktX6_readHeap_0 := by decide +kernel
theorem dksX6_readHeap_1 : cX6_readHeap.data.toList.drop 24 = dktX6_readHeap_1 := dk_seg dksX6_readHeap_0 24 rfl rfl
theorem dksX6_readHeap_2 : cX6_readHeap.data.toList.drop 48 = dktX6_readHeap_2 := dk_seg dksX6_readHeap_1 24 rfl rfl
theorem dksX6_readHeap_3 : cX6_readHeap.data.toList.drop 72 = dktX6_readHeap_3 := dk_seg dksX6_readHeap_2 24 rfl rfl
theorem dksX6_readHeap_4 : cX6_readHeap.data.toList.drop 96 = dktX6_readHeap_4 := dk_seg dksX6_readHeap_3 24 rfl rfl
theorem dX6_readHeap_0 : decode cX6_readHeap 0 = .ok (.aload_n 0, 1) := dk_42 (dk_at dksX6_readHeap_0 0 rfl rfl)
theorem dX6_readHeap_1 : decode cX6_readHeap 1 = .ok (.invokevirtual 63, 3) := dk_182 0 63 (dk_at dksX6_readHeap_0 1 rfl rfl)
theorem dX6_readHeap_4 : decode cX6_readHeap 4 = .ok (.aload_n 0, 1) := dk_42 (dk_at dksX6_readHeap_0 4 rfl rfl)
theorem dX6_readHeap_5 : decode cX6_readHeap 5 = .ok (.iconst 1, 1) := dk_4 (dk_at dksX6_readHeap_0 5 rfl rfl)
theorem dX6_readHeap_6 : decode cX6_readHeap 6 = .ok (.bipush 40, 2) := dk_16 40 (dk_at dksX6_readHeap_0 6 rfl rfl)
theorem dX6_readHeap_8 : decode cX6_readHeap 8 = .ok (.invokevirtual 70, 3) := dk_182 0 70 (dk_at dksX6_readHeap_0 8 rfl rfl)
theorem dX6_readHeap_11 : decode cX6_readHeap 11 = .ok (.ifCond .ne 5, 3) := dk_154 0 5 (dk_at dksX6_readHeap_0 11 rfl rfl)
theorem dX6_readHeap_14 : decode cX6_readHeap 14 = .ok (.iconst 0, 1) := dk_3 (dk_at dksX6_readHeap_0 14 rfl rfl)
theorem dX6_readHeap_15 : decode cX6_readHeap 15 = .ok (.ireturn, 1) := dk_172 (dk_at dksX6_readHeap_0 15 rfl rfl)
theorem dX6_readHeap_16 : decode cX6_readHeap 16 = .ok (.aload_n 0, 1) := dk_42 (dk_at dksX6_readHeap_0 16 rfl rfl)
theorem dX6_readHeap_17 : decode cX6_readHeap 17 = .ok (.getfield 56, 3) := dk_180 0 56 (dk_at dksX6_readHeap_0 17 rfl rfl)
theorem dX6_readHeap_20 : decode cX6_readHeap 20 = .ok (.istore_n 1, 1) := dk_60 (dk_at dksX6_readHeap_0 20 rfl rfl)
theorem dX6_readHeap_21 : decode cX6_readHeap 21 = .ok (.aload_n 0, 1) := dk_42 (dk_at dksX6_readHeap_0 21 rfl rfl)
theorem dX6_readHeap_22 : decode cX6_readHeap 22 = .ok (.iconst 0, 1) := dk_3 (dk_at dksX6_readHeap_0 22 rfl rfl)
theorem dX6_readHeap_23 : decode cX6_readHeap 23 = .ok (.aload_n 0, 1) := dk_42 (dk_at dksX6_readHeap_0 23 rfl rfl)
theorem dX6_readHeap_24 : decode cX6_readHeap 24 = .ok (.getfield 73, 3) := dk_180 0 73 (dk_at dksX6_readHeap_1 0 rfl rfl)
theorem dX6_readHeap_27 : decode cX6_readHeap 27 = .ok (.iconst 1, 1) := dk_4 (dk_at dksX6_readHeap_1 3 rfl rfl)
theorem dX6_readHeap_28 : decode cX6_readHeap 28 = .ok (.isub, 1) := dk_100 (dk_at dksX6_readHeap_1 4 rfl rfl)
theorem dX6_readHeap_29 : decode cX6_readHeap 29 = .ok (.invokevirtual 70, 3) := dk_182 0 70 (dk_at dksX6_readHeap_1 5 rfl rfl)
theorem dX6_readHeap_32 : decode cX6_readHeap 32 = .ok (.ifCond .eq 22, 3) := dk_153 0 22 (dk_at dksX6_readHeap_1 8 rfl rfl)
theorem dX6_readHeap_35 : decode cX6_readHeap 35 = .ok (.aload_n 0, 1) := dk_42 (dk_at dksX6_readHeap_1 11 rfl rfl)
theorem dX6_readHeap_36 : decode cX6_readHeap 36 = .ok (.aload_n 0, 1) := dk_42 (dk_at dksX6_readHeap_1 12 rfl rfl)
theorem dX6_readHeap_37 : decode cX6_readHeap 37 = .ok (.getfield 56, 3) := dk_180 0 56 (dk_at dksX6_readHeap_1 13 rfl rfl)
theorem dX6_readHeap_40 : decode cX6_readHeap 40 = .ok (.aload_n 0, 1) := dk_42 (dk_at dksX6_readHeap_1 16 rfl rfl)
theorem dX6_readHeap_41 : decode cX6_readHeap 41 = .ok (.getfield 73, 3) := dk_180 0 73 (dk_at dksX6_readHeap_1 17 rfl rfl)
theorem dX6_readHeap_44 : decode cX6_readHeap 44 = .ok (.aload_n 0, 1) := dk_42 (dk_at dksX6_readHeap_1 20 rfl rfl)
theorem dX6_readHeap_45 : decode cX6_readHeap 45 = .ok (.getfield 76, 3) := dk_180 0 76 (dk_at dksX6_readHeap_1 21 rfl rfl)
theorem dX6_readHeap_48 : decode cX6_readHeap 48 = .ok (.invokevirtual 79, 3) := dk_182 0 79 (dk_at dksX6_readHeap_2 0 rfl rfl)
theorem dX6_readHeap_51 : decode cX6_readHeap 51 = .ok (.ifCond .ne 5, 3) := dk_154 0 5 (dk_at dksX6_readHeap_2 3 rfl rfl)
theorem dX6_readHeap_54 : decode cX6_readHeap 54 = .ok (.iconst 0, 1) := dk_3 (dk_at dksX6_readHeap_2 6 rfl rfl)
theorem dX6_readHeap_55 : decode cX6_readHeap 55 = .ok (.ireturn, 1) := dk_172 (dk_at dksX6_readHeap_2 7 rfl rfl)
theorem dX6_readHeap_56 : decode cX6_readHeap 56 = .ok (.aload_n 0, 1) := dk_42 (dk_at dksX6_readHeap_2 8 rfl rfl)
theorem dX6_readHeap_57 : decode cX6_readHeap 57 = .ok (.getfield 83, 3) := dk_180 0 83 (dk_at dksX6_readHeap_2 9 rfl rfl)
theorem dX6_readHeap_60 : decode cX6_readHeap 60 = .ok (.aload_n 0, 1) := dk_42 (dk_at dksX6_readHeap_2 12 rfl rfl)
theorem dX6_readHeap_61 : decode cX6_readHeap 61 = .ok (.getfield 56, 3) := dk_180 0 56 (dk_at dksX6_readHeap_2 13 rfl rfl)
theorem dX6_readHeap_64 : decode cX6_readHeap 64 = .ok (.iaload, 1) := dk_46 (dk_at dksX6_readHeap_2 16 rfl rfl)
theorem dX6_readHeap_65 : decode cX6_readHeap 65 = .ok (.iload_n 1, 1) := dk_27 (dk_at dksX6_readHeap_2 17 rfl rfl)
theorem dX6_readHeap_66 : decode cX6_readHeap 66 = .ok (.iadd, 1) := dk_96 (dk_at dksX6_readHeap_2 18 rfl rfl)
theorem dX6_readHeap_67 : decode cX6_readHeap 67 = .ok (.bipush 59, 2) := dk_16 59 (dk_at dksX6_readHeap_2 19 rfl rfl)
theorem dX6_readHeap_69 : decode cX6_readHeap 69 = .ok (.if_icmp .le 9, 3) := dk_164 0 9 (dk_at dksX6_readHeap_2 21 rfl rfl)
theorem dX6_readHeap_72 : decode cX6_readHeap 72 = .ok (.aload_n 0, 1) := dk_42 (dk_at dksX6_readHeap_3 0 rfl rfl)
theorem dX6_readHeap_73 : decode cX6_readHeap 73 = .ok (.iconst 2, 1) := dk_5 (dk_at dksX6_readHeap_3 1 rfl rfl)
theorem dX6_readHeap_74 : decode cX6_readHeap 74 = .ok (.invokevirtual 49, 3) := dk_182 0 49 (dk_at dksX6_readHeap_3 2 rfl rfl)
theorem dX6_readHeap_77 : decode cX6_readHeap 77 = .ok (.ireturn, 1) := dk_172 (dk_at dksX6_readHeap_3 5 rfl rfl)
theorem dX6_readHeap_78 : decode cX6_readHeap 78 = .ok (.aload_n 0, 1) := dk_42 (dk_at dksX6_readHeap_3 6 rfl rfl)
theorem dX6_readHeap_79 : decode cX6_readHeap 79 = .ok (.getfield 83, 3) := dk_180 0 83 (dk_at dksX6_readHeap_3 7 rfl rfl)
theorem dX6_readHeap_82 : decode cX6_readHeap 82 = .ok (.aload_n 0, 1) := dk_42 (dk_at dksX6_readHeap_3 10 rfl rfl)
theorem dX6_readHeap_83 : decode cX6_readHeap 83 = .ok (.getfield 56, 3) := dk_180 0 56 (dk_at dksX6_readHeap_3 11 rfl rfl)
theorem dX6_readHeap_86 : decode cX6_readHeap 86 = .ok (.dup2, 1) := dk_92 (dk_at dksX6_readHeap_3 14 rfl rfl)
theorem dX6_readHeap_87 : decode cX6_readHeap 87 = .ok (.iaload, 1) := dk_46 (dk_at dksX6_readHeap_3 15 rfl rfl)
theorem dX6_readHeap_88 : decode cX6_readHeap 88 = .ok (.iload_n 1, 1) := dk_27 (dk_at dksX6_readHeap_3 16 rfl rfl)
theorem dX6_readHeap_89 : decode cX6_readHeap 89 = .ok (.iadd, 1) := dk_96 (dk_at dksX6_readHeap_3 17 rfl rfl)
theorem dX6_readHeap_90 : decode cX6_readHeap 90 = .ok (.iastore, 1) := dk_79 (dk_at dksX6_readHeap_3 18 rfl rfl)
theorem dX6_readHeap_91 : decode cX6_readHeap 91 = .ok (.aload_n 0, 1) := dk_42 (dk_at dksX6_readHeap_3 19 rfl rfl)
theorem dX6_readHeap_92 : decode cX6_readHeap 92 = .ok (.iconst 1, 1) := dk_4 (dk_at dksX6_readHeap_3 20 rfl rfl)
theorem dX6_readHeap_93 : decode cX6_readHeap 93 = .ok (.putfield 87, 3) := dk_181 0 87 (dk_at dksX6_readHeap_3 21 rfl rfl)
theorem dX6_readHeap_96 : decode cX6_readHeap 96 = .ok (.aload_n 0, 1) := dk_42 (dk_at dksX6_readHeap_4 0 rfl rfl)
theorem dX6_readHeap_97 : decode cX6_readHeap 97 = .ok (.invokevirtual 63, 3) := dk_182 0 63 (dk_at dksX6_readHeap_4 1 rfl rfl)
theorem dX6_readHeap_100 : decode cX6_readHeap 100 = .ok (.iconst 1, 1) := dk_4 (dk_at dksX6_readHeap_4 4 rfl rfl)
theorem dX6_readHeap_101 : decode cX6_readHeap 101 = .ok (.ireturn, 1) := dk_172 (dk_at dksX6_readHeap_4 5 rfl rfl)
abbrev cX6_cellAt : ByteArray := prog_16_method_14_code
def yX6_cellAt : MethodName := ⟨RX6, "cellAt", "(III)Z"⟩
def dkwX6_cellAt_1 : List UInt8 := [181, 0, 56, 4, 172]
abbrev dktX6_cellAt_1 : List UInt8 := dkwX6_cellAt_1 ++ []
def dkwX6_cellAt_0 : List UInt8 := [42, 3, 29, 4, 100, 182, 0, 59, 154, 0, 5, 3, 172, 42, 28, 42, 180, 0, 56, 104, 27, 96]
abbrev dktX6_cellAt_0 : List UInt8 := dkwX6_cellAt_0 ++ dktX6_cellAt_1
theorem dksX6_cellAt_0 : cX6_cellAt.data.toList.drop 0 = dktX6_cellAt_0 := by decide +kernel
theorem dksX6_cellAt_1 : cX6_cellAt.data.toList.drop 22 = dktX6_cellAt_1 := dk_seg dksX6_cellAt_0 22 rfl rfl
theorem dX6_cellAt_0 : decode cX6_cellAt 0 = .ok (.aload_n 0, 1) := dk_42 (dk_at dksX6_cellAt_0 0 rfl rfl)
theorem dX6_cellAt_1 : decode cX6_cellAt 1 = .ok (.iconst 0, 1) := dk_3 (dk_at dksX6_cellAt_0 1 rfl rfl)
theorem dX6_cellAt_2 : decode cX6_cellAt 2 = .ok (.iload_n 3, 1) := dk_29 (dk_at dksX6_cellAt_0 2 rfl rfl)
theorem dX6_cellAt_3 : decode cX6_cellAt 3 = .ok (.iconst 1, 1) := dk_4 (dk_at dksX6_cellAt_0 3 rfl rfl)
theorem dX6_cellAt_4 : decode cX6_cellAt 4 = .ok (.isub, 1) := dk_100 (dk_at dksX6_cellAt_0 4 rfl rfl)
theorem dX6_cellAt_5 : decode cX6_cellAt 5 = .ok (.invokevirtual 59, 3) := dk_182 0 59 (dk_at dksX6_cellAt_0 5 rfl rfl)
theorem dX6_cellAt_8 : decode cX6_cellAt 8 = .ok (.ifCond .ne 5, 3) := dk_154 0 5 (dk_at dksX6_cellAt_0 8 rfl rfl)
theorem dX6_cellAt_11 : decode cX6_cellAt 11 = .ok (.iconst 0, 1) := dk_3 (dk_at dksX6_cellAt_0 11 rfl rfl)
theorem dX6_cellAt_12 : decode cX6_cellAt 12 = .ok (.ireturn, 1) := dk_172 (dk_at dksX6_cellAt_0 12 rfl rfl)
theorem dX6_cellAt_13 : decode cX6_cellAt 13 = .ok (.aload_n 0, 1) := dk_42 (dk_at dksX6_cellAt_0 13 rfl rfl)
theorem dX6_cellAt_14 : decode cX6_cellAt 14 = .ok (.iload_n 2, 1) := dk_28 (dk_at dksX6_cellAt_0 14 rfl rfl)
theorem dX6_cellAt_15 : decode cX6_cellAt 15 = .ok (.aload_n 0, 1) := dk_42 (dk_at dksX6_cellAt_0 15 rfl rfl)
theorem dX6_cellAt_16 : decode cX6_cellAt 16 = .ok (.getfield 56, 3) := dk_180 0 56 (dk_at dksX6_cellAt_0 16 rfl rfl)
theorem dX6_cellAt_19 : decode cX6_cellAt 19 = .ok (.imul, 1) := dk_104 (dk_at dksX6_cellAt_0 19 rfl rfl)
theorem dX6_cellAt_20 : decode cX6_cellAt 20 = .ok (.iload_n 1, 1) := dk_27 (dk_at dksX6_cellAt_0 20 rfl rfl)
theorem dX6_cellAt_21 : decode cX6_cellAt 21 = .ok (.iadd, 1) := dk_96 (dk_at dksX6_cellAt_0 21 rfl rfl)
theorem dX6_cellAt_22 : decode cX6_cellAt 22 = .ok (.putfield 56, 3) := dk_181 0 56 (dk_at dksX6_cellAt_1 0 rfl rfl)
theorem dX6_cellAt_25 : decode cX6_cellAt 25 = .ok (.iconst 1, 1) := dk_4 (dk_at dksX6_cellAt_1 3 rfl rfl)
theorem dX6_cellAt_26 : decode cX6_cellAt 26 = .ok (.ireturn, 1) := dk_172 (dk_at dksX6_cellAt_1 4 rfl rfl)
abbrev cX6_readStone : ByteArray := prog_16_method_16_code
def yX6_readStone : MethodName := ⟨RX6, "readStone", "()Z"⟩
def dkwX6_readStone_3 : List UInt8 := [42, 182, 0, 63, 4, 172]
abbrev dktX6_readStone_3 : List UInt8 := dkwX6_readStone_3 ++ []
def dkwX6_readStone_2 : List UInt8 := [153, 0, 9, 42, 6, 182, 0, 49, 172, 42, 180, 0, 91, 42, 180, 0, 56, 4, 84, 42, 4, 181, 0, 87]
abbrev dktX6_readStone_2 : List UInt8 := dkwX6_readStone_2 ++ dktX6_readStone_3
def dkwX6_readStone_1 : List UInt8 := [180, 0, 73, 42, 180, 0, 76, 182, 0, 79, 154, 0, 5, 3, 172, 42, 180, 0, 91, 42, 180, 0, 56, 51]
abbrev dktX6_readStone_1 : List UInt8 := dkwX6_readStone_1 ++ dktX6_readStone_2
def dkwX6_readStone_0 : List UInt8 := [42, 182, 0, 63, 42, 3, 42, 180, 0, 73, 4, 100, 182, 0, 70, 153, 0, 22, 42, 42, 180, 0, 56, 42]
abbrev dktX6_readStone_0 : List UInt8 := dkwX6_readStone_0 ++ dktX6_readStone_1
theorem dksX6_readStone_0 : cX6_readStone.data.toList.drop 0 = dktX6_readStone_0 := by decide +kernel
theorem dksX6_readStone_1 : cX6_readStone.data.toList.drop 24 = dktX6_readStone_1 := dk_seg dksX6_readStone_0 24 rfl rfl
theorem dksX6_readStone_2 : cX6_readStone.data.toList.drop 48 = dktX6_readStone_2 := dk_seg dksX6_readStone_1 24 rfl rfl
theorem dksX6_readStone_3 : cX6_readStone.data.toList.drop 72 = dktX6_readStone_3 := dk_seg dksX6_readStone_2 24 rfl rfl
theorem dX6_readStone_0 : decode cX6_readStone 0 = .ok (.aload_n 0, 1) := dk_42 (dk_at dksX6_readStone_0 0 rfl rfl)
theorem dX6_readStone_1 : decode cX6_readStone 1 = .ok (.invokevirtual 63, 3) := dk_182 0 63 (dk_at dksX6_readStone_0 1 rfl rfl)
theorem dX6_readStone_4 : decode cX6_readStone 4 = .ok (.aload_n 0, 1) := dk_42 (dk_at dksX6_readStone_0 4 rfl rfl)
theorem dX6_readStone_5 : decode cX6_readStone 5 = .ok (.iconst 0, 1) := dk_3 (dk_at dksX6_readStone_0 5 rfl rfl)
theorem dX6_readStone_6 : decode cX6_readStone 6 = .ok (.aload_n 0, 1) := dk_42 (dk_at dksX6_readStone_0 6 rfl rfl)
theorem dX6_readStone_7 : decode cX6_readStone 7 = .ok (.getfield 73, 3) := dk_180 0 73 (dk_at dksX6_readStone_0 7 rfl rfl)
theorem dX6_readStone_10 : decode cX6_readStone 10 = .ok (.iconst 1, 1) := dk_4 (dk_at dksX6_readStone_0 10 rfl rfl)
theorem dX6_readStone_11 : decode cX6_readStone 11 = .ok (.isub, 1) := dk_100 (dk_at dksX6_readStone_0 11 rfl rfl)
theorem dX6_readStone_12 : decode cX6_readStone 12 = .ok (.invokevirtual 70, 3) := dk_182 0 70 (dk_at dksX6_readStone_0 12 rfl rfl)
theorem dX6_readStone_15 : decode cX6_readStone 15 = .ok (.ifCond .eq 22, 3) := dk_153 0 22 (dk_at dksX6_readStone_0 15 rfl rfl)
theorem dX6_readStone_18 : decode cX6_readStone 18 = .ok (.aload_n 0, 1) := dk_42 (dk_at dksX6_readStone_0 18 rfl rfl)
theorem dX6_readStone_19 : decode cX6_readStone 19 = .ok (.aload_n 0, 1) := dk_42 (dk_at dksX6_readStone_0 19 rfl rfl)
theorem dX6_readStone_20 : decode cX6_readStone 20 = .ok (.getfield 56, 3) := dk_180 0 56 (dk_at dksX6_readStone_0 20 rfl rfl)
theorem dX6_readStone_23 : decode cX6_readStone 23 = .ok (.aload_n 0, 1) := dk_42 (dk_at dksX6_readStone_0 23 rfl rfl)
theorem dX6_readStone_24 : decode cX6_readStone 24 = .ok (.getfield 73, 3) := dk_180 0 73 (dk_at dksX6_readStone_1 0 rfl rfl)
theorem dX6_readStone_27 : decode cX6_readStone 27 = .ok (.aload_n 0, 1) := dk_42 (dk_at dksX6_readStone_1 3 rfl rfl)
theorem dX6_readStone_28 : decode cX6_readStone 28 = .ok (.getfield 76, 3) := dk_180 0 76 (dk_at dksX6_readStone_1 4 rfl rfl)
theorem dX6_readStone_31 : decode cX6_readStone 31 = .ok (.invokevirtual 79, 3) := dk_182 0 79 (dk_at dksX6_readStone_1 7 rfl rfl)
theorem dX6_readStone_34 : decode cX6_readStone 34 = .ok (.ifCond .ne 5, 3) := dk_154 0 5 (dk_at dksX6_readStone_1 10 rfl rfl)
theorem dX6_readStone_37 : decode cX6_readStone 37 = .ok (.iconst 0, 1) := dk_3 (dk_at dksX6_readStone_1 13 rfl rfl)
theorem dX6_readStone_38 : decode cX6_readStone 38 = .ok (.ireturn, 1) := dk_172 (dk_at dksX6_readStone_1 14 rfl rfl)
theorem dX6_readStone_39 : decode cX6_readStone 39 = .ok (.aload_n 0, 1) := dk_42 (dk_at dksX6_readStone_1 15 rfl rfl)
theorem dX6_readStone_40 : decode cX6_readStone 40 = .ok (.getfield 91, 3) := dk_180 0 91 (dk_at dksX6_readStone_1 16 rfl rfl)
theorem dX6_readStone_43 : decode cX6_readStone 43 = .ok (.aload_n 0, 1) := dk_42 (dk_at dksX6_readStone_1 19 rfl rfl)
theorem dX6_readStone_44 : decode cX6_readStone 44 = .ok (.getfield 56, 3) := dk_180 0 56 (dk_at dksX6_readStone_1 20 rfl rfl)
theorem dX6_readStone_47 : decode cX6_readStone 47 = .ok (.baload, 1) := dk_51 (dk_at dksX6_readStone_1 23 rfl rfl)
theorem dX6_readStone_48 : decode cX6_readStone 48 = .ok (.ifCond .eq 9, 3) := dk_153 0 9 (dk_at dksX6_readStone_2 0 rfl rfl)
theorem dX6_readStone_51 : decode cX6_readStone 51 = .ok (.aload_n 0, 1) := dk_42 (dk_at dksX6_readStone_2 3 rfl rfl)
theorem dX6_readStone_52 : decode cX6_readStone 52 = .ok (.iconst 3, 1) := dk_6 (dk_at dksX6_readStone_2 4 rfl rfl)
theorem dX6_readStone_53 : decode cX6_readStone 53 = .ok (.invokevirtual 49, 3) := dk_182 0 49 (dk_at dksX6_readStone_2 5 rfl rfl)
theorem dX6_readStone_56 : decode cX6_readStone 56 = .ok (.ireturn, 1) := dk_172 (dk_at dksX6_readStone_2 8 rfl rfl)
theorem dX6_readStone_57 : decode cX6_readStone 57 = .ok (.aload_n 0, 1) := dk_42 (dk_at dksX6_readStone_2 9 rfl rfl)
theorem dX6_readStone_58 : decode cX6_readStone 58 = .ok (.getfield 91, 3) := dk_180 0 91 (dk_at dksX6_readStone_2 10 rfl rfl)
theorem dX6_readStone_61 : decode cX6_readStone 61 = .ok (.aload_n 0, 1) := dk_42 (dk_at dksX6_readStone_2 13 rfl rfl)
theorem dX6_readStone_62 : decode cX6_readStone 62 = .ok (.getfield 56, 3) := dk_180 0 56 (dk_at dksX6_readStone_2 14 rfl rfl)
theorem dX6_readStone_65 : decode cX6_readStone 65 = .ok (.iconst 1, 1) := dk_4 (dk_at dksX6_readStone_2 17 rfl rfl)
theorem dX6_readStone_66 : decode cX6_readStone 66 = .ok (.bastore, 1) := dk_84 (dk_at dksX6_readStone_2 18 rfl rfl)
theorem dX6_readStone_67 : decode cX6_readStone 67 = .ok (.aload_n 0, 1) := dk_42 (dk_at dksX6_readStone_2 19 rfl rfl)
theorem dX6_readStone_68 : decode cX6_readStone 68 = .ok (.iconst 1, 1) := dk_4 (dk_at dksX6_readStone_2 20 rfl rfl)
theorem dX6_readStone_69 : decode cX6_readStone 69 = .ok (.putfield 87, 3) := dk_181 0 87 (dk_at dksX6_readStone_2 21 rfl rfl)
theorem dX6_readStone_72 : decode cX6_readStone 72 = .ok (.aload_n 0, 1) := dk_42 (dk_at dksX6_readStone_3 0 rfl rfl)
theorem dX6_readStone_73 : decode cX6_readStone 73 = .ok (.invokevirtual 63, 3) := dk_182 0 63 (dk_at dksX6_readStone_3 1 rfl rfl)
theorem dX6_readStone_76 : decode cX6_readStone 76 = .ok (.iconst 1, 1) := dk_4 (dk_at dksX6_readStone_3 4 rfl rfl)
theorem dX6_readStone_77 : decode cX6_readStone 77 = .ok (.ireturn, 1) := dk_172 (dk_at dksX6_readStone_3 5 rfl rfl)
abbrev cX6_readFlag : ByteArray := prog_16_method_17_code
def yX6_readFlag : MethodName := ⟨RX6, "readFlag", "()Z"⟩
def dkwX6_readFlag_5 : List UInt8 := [182, 0, 63, 4, 172]
abbrev dktX6_readFlag_5 : List UInt8 := dkwX6_readFlag_5 ++ []
def dkwX6_readFlag_4 : List UInt8 := [180, 0, 95, 42, 180, 0, 56, 79, 42, 89, 180, 0, 95, 4, 96, 181, 0, 95, 42, 4, 181, 0, 87, 42]
abbrev dktX6_readFlag_4 : List UInt8 := dkwX6_readFlag_4 ++ dktX6_readFlag_5
def dkwX6_readFlag_3 : List UInt8 := [180, 0, 56, 160, 0, 9, 42, 6, 182, 0, 49, 172, 132, 1, 1, 167, 255, 226, 42, 180, 0, 98, 42]
abbrev dktX6_readFlag_3 : List UInt8 := dkwX6_readFlag_3 ++ dktX6_readFlag_4
def dkwX6_readFlag_2 : List UInt8 := [154, 0, 5, 3, 172, 3, 60, 27, 42, 180, 0, 95, 162, 0, 28, 42, 180, 0, 98, 27, 46, 42]
abbrev dktX6_readFlag_2 : List UInt8 := dkwX6_readFlag_2 ++ dktX6_readFlag_3
def dkwX6_readFlag_1 : List UInt8 := [4, 100, 182, 0, 70, 153, 0, 22, 42, 42, 180, 0, 56, 42, 180, 0, 73, 42, 180, 0, 76, 182, 0, 79]
abbrev dktX6_readFlag_1 : List UInt8 := dkwX6_readFlag_1 ++ dktX6_readFlag_2
def dkwX6_readFlag_0 : List UInt8 := [42, 180, 0, 95, 6, 160, 0, 9, 42, 7, 182, 0, 49, 172, 42, 182, 0, 63, 42, 3, 42, 180, 0, 73]
abbrev dktX6_readFlag_0 : List UInt8 := dkwX6_readFlag_0 ++ dktX6_readFlag_1
theorem dksX6_readFlag_0 : cX6_readFlag.data.toList.drop 0 = dktX6_readFlag_0 := by decide +kernel
theorem dksX6_readFlag_1 : cX6_readFlag.data.toList.drop 24 = dktX6_readFlag_1 := dk_seg dksX6_readFlag_0 24 rfl rfl
theorem dksX6_readFlag_2 : cX6_readFlag.data.toList.drop 48 = dktX6_readFlag_2 := dk_seg dksX6_readFlag_1 24 rfl rfl
theorem dksX6_readFlag_3 : cX6_readFlag.data.toList.drop 70 = dktX6_readFlag_3 := dk_seg dksX6_readFlag_2 22 rfl rfl
theorem dksX6_readFlag_4 : cX6_readFlag.data.toList.drop 93 = dktX6_readFlag_4 := dk_seg dksX6_readFlag_3 23 rfl rfl
theorem dksX6_readFlag_5 : cX6_readFlag.data.toList.drop 117 = dktX6_readFlag_5 := dk_seg dksX6_readFlag_4 24 rfl rfl
theorem dX6_readFlag_0 : decode cX6_readFlag 0 = .ok (.aload_n 0, 1) := dk_42 (dk_at dksX6_readFlag_0 0 rfl rfl)
theorem dX6_readFlag_1 : decode cX6_readFlag 1 = .ok (.getfield 95, 3) := dk_180 0 95 (dk_at dksX6_readFlag_0 1 rfl rfl)
theorem dX6_readFlag_4 : decode cX6_readFlag 4 = .ok (.iconst 3, 1) := dk_6 (dk_at dksX6_readFlag_0 4 rfl rfl)
theorem dX6_readFlag_5 : decode cX6_readFlag 5 = .ok (.if_icmp .ne 9, 3) := dk_160 0 9 (dk_at dksX6_readFlag_0 5 rfl rfl)
theorem dX6_readFlag_8 : decode cX6_readFlag 8 = .ok (.aload_n 0, 1) := dk_42 (dk_at dksX6_readFlag_0 8 rfl rfl)
theorem dX6_readFlag_9 : decode cX6_readFlag 9 = .ok (.iconst 4, 1) := dk_7 (dk_at dksX6_readFlag_0 9 rfl rfl)
theorem dX6_readFlag_10 : decode cX6_readFlag 10 = .ok (.invokevirtual 49, 3) := dk_182 0 49 (dk_at dksX6_readFlag_0 10 rfl rfl)
theorem dX6_readFlag_13 : decode cX6_readFlag 13 = .ok (.ireturn, 1) := dk_172 (dk_at dksX6_readFlag_0 13 rfl rfl)
theorem dX6_readFlag_14 : decode cX6_readFlag 14 = .ok (.aload_n 0, 1) := dk_42 (dk_at dksX6_readFlag_0 14 rfl rfl)
theorem dX6_readFlag_15 : decode cX6_readFlag 15 = .ok (.invokevirtual 63, 3) := dk_182 0 63 (dk_at dksX6_readFlag_0 15 rfl rfl)
theorem dX6_readFlag_18 : decode cX6_readFlag 18 = .ok (.aload_n 0, 1) := dk_42 (dk_at dksX6_readFlag_0 18 rfl rfl)
theorem dX6_readFlag_19 : decode cX6_readFlag 19 = .ok (.iconst 0, 1) := dk_3 (dk_at dksX6_readFlag_0 19 rfl rfl)
theorem dX6_readFlag_20 : decode cX6_readFlag 20 = .ok (.aload_n 0, 1) := dk_42 (dk_at dksX6_readFlag_0 20 rfl rfl)
theorem dX6_readFlag_21 : decode cX6_readFlag 21 = .ok (.getfield 73, 3) := dk_180 0 73 (dk_at dksX6_readFlag_0 21 rfl rfl)
theorem dX6_readFlag_24 : decode cX6_readFlag 24 = .ok (.iconst 1, 1) := dk_4 (dk_at dksX6_readFlag_1 0 rfl rfl)
theorem dX6_readFlag_25 : decode cX6_readFlag 25 = .ok (.isub, 1) := dk_100 (dk_at dksX6_readFlag_1 1 rfl rfl)
theorem dX6_readFlag_26 : decode cX6_readFlag 26 = .ok (.invokevirtual 70, 3) := dk_182 0 70 (dk_at dksX6_readFlag_1 2 rfl rfl)
theorem dX6_readFlag_29 : decode cX6_readFlag 29 = .ok (.ifCond .eq 22, 3) := dk_153 0 22 (dk_at dksX6_readFlag_1 5 rfl rfl)
theorem dX6_readFlag_32 : decode cX6_readFlag 32 = .ok (.aload_n 0, 1) := dk_42 (dk_at dksX6_readFlag_1 8 rfl rfl)
theorem dX6_readFlag_33 : decode cX6_readFlag 33 = .ok (.aload_n 0, 1) := dk_42 (dk_at dksX6_readFlag_1 9 rfl rfl)
theorem dX6_readFlag_34 : decode cX6_readFlag 34 = .ok (.getfield 56, 3) := dk_180 0 56 (dk_at dksX6_readFlag_1 10 rfl rfl)
theorem dX6_readFlag_37 : decode cX6_readFlag 37 = .ok (.aload_n 0, 1) := dk_42 (dk_at dksX6_readFlag_1 13 rfl rfl)
theorem dX6_readFlag_38 : decode cX6_readFlag 38 = .ok (.getfield 73, 3) := dk_180 0 73 (dk_at dksX6_readFlag_1 14 rfl rfl)
theorem dX6_readFlag_41 : decode cX6_readFlag 41 = .ok (.aload_n 0, 1) := dk_42 (dk_at dksX6_readFlag_1 17 rfl rfl)
theorem dX6_readFlag_42 : decode cX6_readFlag 42 = .ok (.getfield 76, 3) := dk_180 0 76 (dk_at dksX6_readFlag_1 18 rfl rfl)
theorem dX6_readFlag_45 : decode cX6_readFlag 45 = .ok (.invokevirtual 79, 3) := dk_182 0 79 (dk_at dksX6_readFlag_1 21 rfl rfl)
theorem dX6_readFlag_48 : decode cX6_readFlag 48 = .ok (.ifCond .ne 5, 3) := dk_154 0 5 (dk_at dksX6_readFlag_2 0 rfl rfl)
theorem dX6_readFlag_51 : decode cX6_readFlag 51 = .ok (.iconst 0, 1) := dk_3 (dk_at dksX6_readFlag_2 3 rfl rfl)
theorem dX6_readFlag_52 : decode cX6_readFlag 52 = .ok (.ireturn, 1) := dk_172 (dk_at dksX6_readFlag_2 4 rfl rfl)
theorem dX6_readFlag_53 : decode cX6_readFlag 53 = .ok (.iconst 0, 1) := dk_3 (dk_at dksX6_readFlag_2 5 rfl rfl)
theorem dX6_readFlag_54 : decode cX6_readFlag 54 = .ok (.istore_n 1, 1) := dk_60 (dk_at dksX6_readFlag_2 6 rfl rfl)
theorem dX6_readFlag_55 : decode cX6_readFlag 55 = .ok (.iload_n 1, 1) := dk_27 (dk_at dksX6_readFlag_2 7 rfl rfl)
theorem dX6_readFlag_56 : decode cX6_readFlag 56 = .ok (.aload_n 0, 1) := dk_42 (dk_at dksX6_readFlag_2 8 rfl rfl)
theorem dX6_readFlag_57 : decode cX6_readFlag 57 = .ok (.getfield 95, 3) := dk_180 0 95 (dk_at dksX6_readFlag_2 9 rfl rfl)
theorem dX6_readFlag_60 : decode cX6_readFlag 60 = .ok (.if_icmp .ge 28, 3) := dk_162 0 28 (dk_at dksX6_readFlag_2 12 rfl rfl)
theorem dX6_readFlag_63 : decode cX6_readFlag 63 = .ok (.aload_n 0, 1) := dk_42 (dk_at dksX6_readFlag_2 15 rfl rfl)
theorem dX6_readFlag_64 : decode cX6_readFlag 64 = .ok (.getfield 98, 3) := dk_180 0 98 (dk_at dksX6_readFlag_2 16 rfl rfl)
theorem dX6_readFlag_67 : decode cX6_readFlag 67 = .ok (.iload_n 1, 1) := dk_27 (dk_at dksX6_readFlag_2 19 rfl rfl)
theorem dX6_readFlag_68 : decode cX6_readFlag 68 = .ok (.iaload, 1) := dk_46 (dk_at dksX6_readFlag_2 20 rfl rfl)
theorem dX6_readFlag_69 : decode cX6_readFlag 69 = .ok (.aload_n 0, 1) := dk_42 (dk_at dksX6_readFlag_2 21 rfl rfl)
theorem dX6_readFlag_70 : decode cX6_readFlag 70 = .ok (.getfield 56, 3) := dk_180 0 56 (dk_at dksX6_readFlag_3 0 rfl rfl)
theorem dX6_readFlag_73 : decode cX6_readFlag 73 = .ok (.if_icmp .ne 9, 3) := dk_160 0 9 (dk_at dksX6_readFlag_3 3 rfl rfl)
theorem dX6_readFlag_76 : decode cX6_readFlag 76 = .ok (.aload_n 0, 1) := dk_42 (dk_at dksX6_readFlag_3 6 rfl rfl)
theorem dX6_readFlag_77 : decode cX6_readFlag 77 = .ok (.iconst 3, 1) := dk_6 (dk_at dksX6_readFlag_3 7 rfl rfl)
theorem dX6_readFlag_78 : decode cX6_readFlag 78 = .ok (.invokevirtual 49, 3) := dk_182 0 49 (dk_at dksX6_readFlag_3 8 rfl rfl)
theorem dX6_readFlag_81 : decode cX6_readFlag 81 = .ok (.ireturn, 1) := dk_172 (dk_at dksX6_readFlag_3 11 rfl rfl)
theorem dX6_readFlag_82 : decode cX6_readFlag 82 = .ok (.iinc 1 1, 3) := dk_132 1 1 (dk_at dksX6_readFlag_3 12 rfl rfl)
theorem dX6_readFlag_85 : decode cX6_readFlag 85 = .ok (.goto (-30), 3) := dk_167 255 226 (dk_at dksX6_readFlag_3 15 rfl rfl)
theorem dX6_readFlag_88 : decode cX6_readFlag 88 = .ok (.aload_n 0, 1) := dk_42 (dk_at dksX6_readFlag_3 18 rfl rfl)
theorem dX6_readFlag_89 : decode cX6_readFlag 89 = .ok (.getfield 98, 3) := dk_180 0 98 (dk_at dksX6_readFlag_3 19 rfl rfl)
theorem dX6_readFlag_92 : decode cX6_readFlag 92 = .ok (.aload_n 0, 1) := dk_42 (dk_at dksX6_readFlag_3 22 rfl rfl)
theorem dX6_readFlag_93 : decode cX6_readFlag 93 = .ok (.getfield 95, 3) := dk_180 0 95 (dk_at dksX6_readFlag_4 0 rfl rfl)
theorem dX6_readFlag_96 : decode cX6_readFlag 96 = .ok (.aload_n 0, 1) := dk_42 (dk_at dksX6_readFlag_4 3 rfl rfl)
theorem dX6_readFlag_97 : decode cX6_readFlag 97 = .ok (.getfield 56, 3) := dk_180 0 56 (dk_at dksX6_readFlag_4 4 rfl rfl)
theorem dX6_readFlag_100 : decode cX6_readFlag 100 = .ok (.iastore, 1) := dk_79 (dk_at dksX6_readFlag_4 7 rfl rfl)
theorem dX6_readFlag_101 : decode cX6_readFlag 101 = .ok (.aload_n 0, 1) := dk_42 (dk_at dksX6_readFlag_4 8 rfl rfl)
theorem dX6_readFlag_102 : decode cX6_readFlag 102 = .ok (.dup, 1) := dk_89 (dk_at dksX6_readFlag_4 9 rfl rfl)
theorem dX6_readFlag_103 : decode cX6_readFlag 103 = .ok (.getfield 95, 3) := dk_180 0 95 (dk_at dksX6_readFlag_4 10 rfl rfl)
theorem dX6_readFlag_106 : decode cX6_readFlag 106 = .ok (.iconst 1, 1) := dk_4 (dk_at dksX6_readFlag_4 13 rfl rfl)
theorem dX6_readFlag_107 : decode cX6_readFlag 107 = .ok (.iadd, 1) := dk_96 (dk_at dksX6_readFlag_4 14 rfl rfl)
theorem dX6_readFlag_108 : decode cX6_readFlag 108 = .ok (.putfield 95, 3) := dk_181 0 95 (dk_at dksX6_readFlag_4 15 rfl rfl)
theorem dX6_readFlag_111 : decode cX6_readFlag 111 = .ok (.aload_n 0, 1) := dk_42 (dk_at dksX6_readFlag_4 18 rfl rfl)
theorem dX6_readFlag_112 : decode cX6_readFlag 112 = .ok (.iconst 1, 1) := dk_4 (dk_at dksX6_readFlag_4 19 rfl rfl)
theorem dX6_readFlag_113 : decode cX6_readFlag 113 = .ok (.putfield 87, 3) := dk_181 0 87 (dk_at dksX6_readFlag_4 20 rfl rfl)
theorem dX6_readFlag_116 : decode cX6_readFlag 116 = .ok (.aload_n 0, 1) := dk_42 (dk_at dksX6_readFlag_4 23 rfl rfl)
theorem dX6_readFlag_117 : decode cX6_readFlag 117 = .ok (.invokevirtual 63, 3) := dk_182 0 63 (dk_at dksX6_readFlag_5 0 rfl rfl)
theorem dX6_readFlag_120 : decode cX6_readFlag 120 = .ok (.iconst 1, 1) := dk_4 (dk_at dksX6_readFlag_5 3 rfl rfl)
theorem dX6_readFlag_121 : decode cX6_readFlag 121 = .ok (.ireturn, 1) := dk_172 (dk_at dksX6_readFlag_5 4 rfl rfl)
abbrev cX6_readSmall : ByteArray := prog_16_method_20_code
def yX6_readSmall : MethodName := ⟨RX6, "readSmall", "()Z"⟩
def dkwX6_readSmall_4 : List UInt8 := [154, 0, 5, 3, 172, 42, 180, 0, 128, 28, 42, 180, 0, 56, 79, 132, 2, 1, 167, 255, 198, 4, 172]
abbrev dktX6_readSmall_4 : List UInt8 := dkwX6_readSmall_4 ++ []
def dkwX6_readSmall_3 : List UInt8 := [5, 159, 0, 9, 28, 16, 6, 160, 0, 7, 4, 167, 0, 4, 3, 28, 184, 0, 125, 182, 0, 70]
abbrev dktX6_readSmall_3 : List UInt8 := dkwX6_readSmall_3 ++ dktX6_readSmall_4
def dkwX6_readSmall_2 : List UInt8 := [42, 182, 0, 63, 27, 61, 28, 27, 16, 6, 160, 0, 8, 16, 8, 167, 0, 4, 27, 163, 0, 48, 42, 28]
abbrev dktX6_readSmall_2 : List UInt8 := dkwX6_readSmall_2 ++ dktX6_readSmall_3
def dkwX6_readSmall_1 : List UInt8 := [4, 126, 4, 160, 0, 9, 42, 6, 182, 0, 49, 172, 42, 89, 180, 0, 101, 5, 27, 120, 128, 181, 0, 101]
abbrev dktX6_readSmall_1 : List UInt8 := dkwX6_readSmall_1 ++ dktX6_readSmall_2
def dkwX6_readSmall_0 : List UInt8 := [42, 182, 0, 122, 60, 27, 2, 160, 0, 9, 42, 4, 182, 0, 49, 172, 42, 180, 0, 101, 27, 4, 96, 122]
abbrev dktX6_readSmall_0 : List UInt8 := dkwX6_readSmall_0 ++ dktX6_readSmall_1
theorem dksX6_readSmall_0 : cX6_readSmall.data.toList.drop 0 = dktX6_readSmall_0 := by decide +kernel
theorem dksX6_readSmall_1 : cX6_readSmall.data.toList.drop 24 = dktX6_readSmall_1 := dk_seg dksX6_readSmall_0 24 rfl rfl
theorem dksX6_readSmall_2 : cX6_readSmall.data.toList.drop 48 = dktX6_readSmall_2 := dk_seg dksX6_readSmall_1 24 rfl rfl
theorem dksX6_readSmall_3 : cX6_readSmall.data.toList.drop 72 = dktX6_readSmall_3 := dk_seg dksX6_readSmall_2 24 rfl rfl
theorem dksX6_readSmall_4 : cX6_readSmall.data.toList.drop 94 = dktX6_readSmall_4 := dk_seg dksX6_readSmall_3 22 rfl rfl
theorem dX6_readSmall_0 : decode cX6_readSmall 0 = .ok (.aload_n 0, 1) := dk_42 (dk_at dksX6_readSmall_0 0 rfl rfl)
theorem dX6_readSmall_1 : decode cX6_readSmall 1 = .ok (.invokevirtual 122, 3) := dk_182 0 122 (dk_at dksX6_readSmall_0 1 rfl rfl)
theorem dX6_readSmall_4 : decode cX6_readSmall 4 = .ok (.istore_n 1, 1) := dk_60 (dk_at dksX6_readSmall_0 4 rfl rfl)
theorem dX6_readSmall_5 : decode cX6_readSmall 5 = .ok (.iload_n 1, 1) := dk_27 (dk_at dksX6_readSmall_0 5 rfl rfl)
theorem dX6_readSmall_6 : decode cX6_readSmall 6 = .ok (.iconst (-1), 1) := dk_2 (dk_at dksX6_readSmall_0 6 rfl rfl)
theorem dX6_readSmall_7 : decode cX6_readSmall 7 = .ok (.if_icmp .ne 9, 3) := dk_160 0 9 (dk_at dksX6_readSmall_0 7 rfl rfl)
theorem dX6_readSmall_10 : decode cX6_readSmall 10 = .ok (.aload_n 0, 1) := dk_42 (dk_at dksX6_readSmall_0 10 rfl rfl)
theorem dX6_readSmall_11 : decode cX6_readSmall 11 = .ok (.iconst 1, 1) := dk_4 (dk_at dksX6_readSmall_0 11 rfl rfl)
theorem dX6_readSmall_12 : decode cX6_readSmall 12 = .ok (.invokevirtual 49, 3) := dk_182 0 49 (dk_at dksX6_readSmall_0 12 rfl rfl)
theorem dX6_readSmall_15 : decode cX6_readSmall 15 = .ok (.ireturn, 1) := dk_172 (dk_at dksX6_readSmall_0 15 rfl rfl)
theorem dX6_readSmall_16 : decode cX6_readSmall 16 = .ok (.aload_n 0, 1) := dk_42 (dk_at dksX6_readSmall_0 16 rfl rfl)
theorem dX6_readSmall_17 : decode cX6_readSmall 17 = .ok (.getfield 101, 3) := dk_180 0 101 (dk_at dksX6_readSmall_0 17 rfl rfl)
theorem dX6_readSmall_20 : decode cX6_readSmall 20 = .ok (.iload_n 1, 1) := dk_27 (dk_at dksX6_readSmall_0 20 rfl rfl)
theorem dX6_readSmall_21 : decode cX6_readSmall 21 = .ok (.iconst 1, 1) := dk_4 (dk_at dksX6_readSmall_0 21 rfl rfl)
theorem dX6_readSmall_22 : decode cX6_readSmall 22 = .ok (.iadd, 1) := dk_96 (dk_at dksX6_readSmall_0 22 rfl rfl)
theorem dX6_readSmall_23 : decode cX6_readSmall 23 = .ok (.ishr, 1) := dk_122 (dk_at dksX6_readSmall_0 23 rfl rfl)
theorem dX6_readSmall_24 : decode cX6_readSmall 24 = .ok (.iconst 1, 1) := dk_4 (dk_at dksX6_readSmall_1 0 rfl rfl)
theorem dX6_readSmall_25 : decode cX6_readSmall 25 = .ok (.iand, 1) := dk_126 (dk_at dksX6_readSmall_1 1 rfl rfl)
theorem dX6_readSmall_26 : decode cX6_readSmall 26 = .ok (.iconst 1, 1) := dk_4 (dk_at dksX6_readSmall_1 2 rfl rfl)
theorem dX6_readSmall_27 : decode cX6_readSmall 27 = .ok (.if_icmp .ne 9, 3) := dk_160 0 9 (dk_at dksX6_readSmall_1 3 rfl rfl)
theorem dX6_readSmall_30 : decode cX6_readSmall 30 = .ok (.aload_n 0, 1) := dk_42 (dk_at dksX6_readSmall_1 6 rfl rfl)
theorem dX6_readSmall_31 : decode cX6_readSmall 31 = .ok (.iconst 3, 1) := dk_6 (dk_at dksX6_readSmall_1 7 rfl rfl)
theorem dX6_readSmall_32 : decode cX6_readSmall 32 = .ok (.invokevirtual 49, 3) := dk_182 0 49 (dk_at dksX6_readSmall_1 8 rfl rfl)
theorem dX6_readSmall_35 : decode cX6_readSmall 35 = .ok (.ireturn, 1) := dk_172 (dk_at dksX6_readSmall_1 11 rfl rfl)
theorem dX6_readSmall_36 : decode cX6_readSmall 36 = .ok (.aload_n 0, 1) := dk_42 (dk_at dksX6_readSmall_1 12 rfl rfl)
theorem dX6_readSmall_37 : decode cX6_readSmall 37 = .ok (.dup, 1) := dk_89 (dk_at dksX6_readSmall_1 13 rfl rfl)
theorem dX6_readSmall_38 : decode cX6_readSmall 38 = .ok (.getfield 101, 3) := dk_180 0 101 (dk_at dksX6_readSmall_1 14 rfl rfl)
theorem dX6_readSmall_41 : decode cX6_readSmall 41 = .ok (.iconst 2, 1) := dk_5 (dk_at dksX6_readSmall_1 17 rfl rfl)
theorem dX6_readSmall_42 : decode cX6_readSmall 42 = .ok (.iload_n 1, 1) := dk_27 (dk_at dksX6_readSmall_1 18 rfl rfl)
theorem dX6_readSmall_43 : decode cX6_readSmall 43 = .ok (.ishl, 1) := dk_120 (dk_at dksX6_readSmall_1 19 rfl rfl)
theorem dX6_readSmall_44 : decode cX6_readSmall 44 = .ok (.ior, 1) := dk_128 (dk_at dksX6_readSmall_1 20 rfl rfl)
theorem dX6_readSmall_45 : decode cX6_readSmall 45 = .ok (.putfield 101, 3) := dk_181 0 101 (dk_at dksX6_readSmall_1 21 rfl rfl)
theorem dX6_readSmall_48 : decode cX6_readSmall 48 = .ok (.aload_n 0, 1) := dk_42 (dk_at dksX6_readSmall_2 0 rfl rfl)
theorem dX6_readSmall_49 : decode cX6_readSmall 49 = .ok (.invokevirtual 63, 3) := dk_182 0 63 (dk_at dksX6_readSmall_2 1 rfl rfl)
theorem dX6_readSmall_52 : decode cX6_readSmall 52 = .ok (.iload_n 1, 1) := dk_27 (dk_at dksX6_readSmall_2 4 rfl rfl)
theorem dX6_readSmall_53 : decode cX6_readSmall 53 = .ok (.istore_n 2, 1) := dk_61 (dk_at dksX6_readSmall_2 5 rfl rfl)
theorem dX6_readSmall_54 : decode cX6_readSmall 54 = .ok (.iload_n 2, 1) := dk_28 (dk_at dksX6_readSmall_2 6 rfl rfl)
theorem dX6_readSmall_55 : decode cX6_readSmall 55 = .ok (.iload_n 1, 1) := dk_27 (dk_at dksX6_readSmall_2 7 rfl rfl)
theorem dX6_readSmall_56 : decode cX6_readSmall 56 = .ok (.bipush 6, 2) := dk_16 6 (dk_at dksX6_readSmall_2 8 rfl rfl)
theorem dX6_readSmall_58 : decode cX6_readSmall 58 = .ok (.if_icmp .ne 8, 3) := dk_160 0 8 (dk_at dksX6_readSmall_2 10 rfl rfl)
theorem dX6_readSmall_61 : decode cX6_readSmall 61 = .ok (.bipush 8, 2) := dk_16 8 (dk_at dksX6_readSmall_2 13 rfl rfl)
theorem dX6_readSmall_63 : decode cX6_readSmall 63 = .ok (.goto 4, 3) := dk_167 0 4 (dk_at dksX6_readSmall_2 15 rfl rfl)
theorem dX6_readSmall_66 : decode cX6_readSmall 66 = .ok (.iload_n 1, 1) := dk_27 (dk_at dksX6_readSmall_2 18 rfl rfl)
theorem dX6_readSmall_67 : decode cX6_readSmall 67 = .ok (.if_icmp .gt 48, 3) := dk_163 0 48 (dk_at dksX6_readSmall_2 19 rfl rfl)
theorem dX6_readSmall_70 : decode cX6_readSmall 70 = .ok (.aload_n 0, 1) := dk_42 (dk_at dksX6_readSmall_2 22 rfl rfl)
theorem dX6_readSmall_71 : decode cX6_readSmall 71 = .ok (.iload_n 2, 1) := dk_28 (dk_at dksX6_readSmall_2 23 rfl rfl)
theorem dX6_readSmall_72 : decode cX6_readSmall 72 = .ok (.iconst 2, 1) := dk_5 (dk_at dksX6_readSmall_3 0 rfl rfl)
theorem dX6_readSmall_73 : decode cX6_readSmall 73 = .ok (.if_icmp .eq 9, 3) := dk_159 0 9 (dk_at dksX6_readSmall_3 1 rfl rfl)
theorem dX6_readSmall_76 : decode cX6_readSmall 76 = .ok (.iload_n 2, 1) := dk_28 (dk_at dksX6_readSmall_3 4 rfl rfl)
theorem dX6_readSmall_77 : decode cX6_readSmall 77 = .ok (.bipush 6, 2) := dk_16 6 (dk_at dksX6_readSmall_3 5 rfl rfl)
theorem dX6_readSmall_79 : decode cX6_readSmall 79 = .ok (.if_icmp .ne 7, 3) := dk_160 0 7 (dk_at dksX6_readSmall_3 7 rfl rfl)
theorem dX6_readSmall_82 : decode cX6_readSmall 82 = .ok (.iconst 1, 1) := dk_4 (dk_at dksX6_readSmall_3 10 rfl rfl)
theorem dX6_readSmall_83 : decode cX6_readSmall 83 = .ok (.goto 4, 3) := dk_167 0 4 (dk_at dksX6_readSmall_3 11 rfl rfl)
theorem dX6_readSmall_86 : decode cX6_readSmall 86 = .ok (.iconst 0, 1) := dk_3 (dk_at dksX6_readSmall_3 14 rfl rfl)
theorem dX6_readSmall_87 : decode cX6_readSmall 87 = .ok (.iload_n 2, 1) := dk_28 (dk_at dksX6_readSmall_3 15 rfl rfl)
theorem dX6_readSmall_88 : decode cX6_readSmall 88 = .ok (.invokestatic 125, 3) := dk_184 0 125 (dk_at dksX6_readSmall_3 16 rfl rfl)
theorem dX6_readSmall_91 : decode cX6_readSmall 91 = .ok (.invokevirtual 70, 3) := dk_182 0 70 (dk_at dksX6_readSmall_3 19 rfl rfl)
theorem dX6_readSmall_94 : decode cX6_readSmall 94 = .ok (.ifCond .ne 5, 3) := dk_154 0 5 (dk_at dksX6_readSmall_4 0 rfl rfl)
theorem dX6_readSmall_97 : decode cX6_readSmall 97 = .ok (.iconst 0, 1) := dk_3 (dk_at dksX6_readSmall_4 3 rfl rfl)
theorem dX6_readSmall_98 : decode cX6_readSmall 98 = .ok (.ireturn, 1) := dk_172 (dk_at dksX6_readSmall_4 4 rfl rfl)
theorem dX6_readSmall_99 : decode cX6_readSmall 99 = .ok (.aload_n 0, 1) := dk_42 (dk_at dksX6_readSmall_4 5 rfl rfl)
theorem dX6_readSmall_100 : decode cX6_readSmall 100 = .ok (.getfield 128, 3) := dk_180 0 128 (dk_at dksX6_readSmall_4 6 rfl rfl)
theorem dX6_readSmall_103 : decode cX6_readSmall 103 = .ok (.iload_n 2, 1) := dk_28 (dk_at dksX6_readSmall_4 9 rfl rfl)
theorem dX6_readSmall_104 : decode cX6_readSmall 104 = .ok (.aload_n 0, 1) := dk_42 (dk_at dksX6_readSmall_4 10 rfl rfl)
theorem dX6_readSmall_105 : decode cX6_readSmall 105 = .ok (.getfield 56, 3) := dk_180 0 56 (dk_at dksX6_readSmall_4 11 rfl rfl)
theorem dX6_readSmall_108 : decode cX6_readSmall 108 = .ok (.iastore, 1) := dk_79 (dk_at dksX6_readSmall_4 14 rfl rfl)
theorem dX6_readSmall_109 : decode cX6_readSmall 109 = .ok (.iinc 2 1, 3) := dk_132 2 1 (dk_at dksX6_readSmall_4 15 rfl rfl)
theorem dX6_readSmall_112 : decode cX6_readSmall 112 = .ok (.goto (-58), 3) := dk_167 255 198 (dk_at dksX6_readSmall_4 18 rfl rfl)
theorem dX6_readSmall_115 : decode cX6_readSmall 115 = .ok (.iconst 1, 1) := dk_4 (dk_at dksX6_readSmall_4 21 rfl rfl)
theorem dX6_readSmall_116 : decode cX6_readSmall 116 = .ok (.ireturn, 1) := dk_172 (dk_at dksX6_readSmall_4 22 rfl rfl)
abbrev cX6_wordAt : ByteArray := prog_16_method_19_code
def yX6_wordAt : MethodName := ⟨RX6, "wordAt", "()I"⟩
def dkwX6_wordAt_4 : List UInt8 := [2, 172]
abbrev dktX6_wordAt_4 : List UInt8 := dkwX6_wordAt_4 ++ []
def dkwX6_wordAt_3 : List UInt8 := [182, 0, 106, 153, 0, 7, 8, 167, 0, 18, 42, 18, 120, 182, 0, 106, 153, 0, 8, 16, 6, 167, 0, 4]
abbrev dktX6_wordAt_3 : List UInt8 := dkwX6_wordAt_3 ++ dktX6_wordAt_4
def dkwX6_wordAt_2 : List UInt8 := [153, 0, 7, 6, 167, 0, 44, 42, 18, 116, 182, 0, 106, 153, 0, 7, 7, 167, 0, 31, 42, 18, 118]
abbrev dktX6_wordAt_2 : List UInt8 := dkwX6_wordAt_2 ++ dktX6_wordAt_3
def dkwX6_wordAt_1 : List UInt8 := [167, 0, 70, 42, 18, 112, 182, 0, 106, 153, 0, 7, 5, 167, 0, 57, 42, 18, 114, 182, 0, 106]
abbrev dktX6_wordAt_1 : List UInt8 := dkwX6_wordAt_1 ++ dktX6_wordAt_2
def dkwX6_wordAt_0 : List UInt8 := [42, 18, 104, 182, 0, 106, 153, 0, 7, 3, 167, 0, 83, 42, 18, 110, 182, 0, 106, 153, 0, 7, 4]
abbrev dktX6_wordAt_0 : List UInt8 := dkwX6_wordAt_0 ++ dktX6_wordAt_1
theorem dksX6_wordAt_0 : cX6_wordAt.data.toList.drop 0 = dktX6_wordAt_0 := by decide +kernel
theorem dksX6_wordAt_1 : cX6_wordAt.data.toList.drop 23 = dktX6_wordAt_1 := dk_seg dksX6_wordAt_0 23 rfl rfl
theorem dksX6_wordAt_2 : cX6_wordAt.data.toList.drop 45 = dktX6_wordAt_2 := dk_seg dksX6_wordAt_1 22 rfl rfl
theorem dksX6_wordAt_3 : cX6_wordAt.data.toList.drop 68 = dktX6_wordAt_3 := dk_seg dksX6_wordAt_2 23 rfl rfl
theorem dksX6_wordAt_4 : cX6_wordAt.data.toList.drop 92 = dktX6_wordAt_4 := dk_seg dksX6_wordAt_3 24 rfl rfl
theorem dX6_wordAt_0 : decode cX6_wordAt 0 = .ok (.aload_n 0, 1) := dk_42 (dk_at dksX6_wordAt_0 0 rfl rfl)
theorem dX6_wordAt_1 : decode cX6_wordAt 1 = .ok (.ldc 104, 2) := dk_18 104 (dk_at dksX6_wordAt_0 1 rfl rfl)
theorem dX6_wordAt_3 : decode cX6_wordAt 3 = .ok (.invokevirtual 106, 3) := dk_182 0 106 (dk_at dksX6_wordAt_0 3 rfl rfl)
theorem dX6_wordAt_6 : decode cX6_wordAt 6 = .ok (.ifCond .eq 7, 3) := dk_153 0 7 (dk_at dksX6_wordAt_0 6 rfl rfl)
theorem dX6_wordAt_9 : decode cX6_wordAt 9 = .ok (.iconst 0, 1) := dk_3 (dk_at dksX6_wordAt_0 9 rfl rfl)
theorem dX6_wordAt_10 : decode cX6_wordAt 10 = .ok (.goto 83, 3) := dk_167 0 83 (dk_at dksX6_wordAt_0 10 rfl rfl)
theorem dX6_wordAt_13 : decode cX6_wordAt 13 = .ok (.aload_n 0, 1) := dk_42 (dk_at dksX6_wordAt_0 13 rfl rfl)
theorem dX6_wordAt_14 : decode cX6_wordAt 14 = .ok (.ldc 110, 2) := dk_18 110 (dk_at dksX6_wordAt_0 14 rfl rfl)
theorem dX6_wordAt_16 : decode cX6_wordAt 16 = .ok (.invokevirtual 106, 3) := dk_182 0 106 (dk_at dksX6_wordAt_0 16 rfl rfl)
theorem dX6_wordAt_19 : decode cX6_wordAt 19 = .ok (.ifCond .eq 7, 3) := dk_153 0 7 (dk_at dksX6_wordAt_0 19 rfl rfl)
theorem dX6_wordAt_22 : decode cX6_wordAt 22 = .ok (.iconst 1, 1) := dk_4 (dk_at dksX6_wordAt_0 22 rfl rfl)
theorem dX6_wordAt_23 : decode cX6_wordAt 23 = .ok (.goto 70, 3) := dk_167 0 70 (dk_at dksX6_wordAt_1 0 rfl rfl)
theorem dX6_wordAt_26 : decode cX6_wordAt 26 = .ok (.aload_n 0, 1) := dk_42 (dk_at dksX6_wordAt_1 3 rfl rfl)
theorem dX6_wordAt_27 : decode cX6_wordAt 27 = .ok (.ldc 112, 2) := dk_18 112 (dk_at dksX6_wordAt_1 4 rfl rfl)
theorem dX6_wordAt_29 : decode cX6_wordAt 29 = .ok (.invokevirtual 106, 3) := dk_182 0 106 (dk_at dksX6_wordAt_1 6 rfl rfl)
theorem dX6_wordAt_32 : decode cX6_wordAt 32 = .ok (.ifCond .eq 7, 3) := dk_153 0 7 (dk_at dksX6_wordAt_1 9 rfl rfl)
theorem dX6_wordAt_35 : decode cX6_wordAt 35 = .ok (.iconst 2, 1) := dk_5 (dk_at dksX6_wordAt_1 12 rfl rfl)
theorem dX6_wordAt_36 : decode cX6_wordAt 36 = .ok (.goto 57, 3) := dk_167 0 57 (dk_at dksX6_wordAt_1 13 rfl rfl)
theorem dX6_wordAt_39 : decode cX6_wordAt 39 = .ok (.aload_n 0, 1) := dk_42 (dk_at dksX6_wordAt_1 16 rfl rfl)
theorem dX6_wordAt_40 : decode cX6_wordAt 40 = .ok (.ldc 114, 2) := dk_18 114 (dk_at dksX6_wordAt_1 17 rfl rfl)
theorem dX6_wordAt_42 : decode cX6_wordAt 42 = .ok (.invokevirtual 106, 3) := dk_182 0 106 (dk_at dksX6_wordAt_1 19 rfl rfl)
theorem dX6_wordAt_45 : decode cX6_wordAt 45 = .ok (.ifCond .eq 7, 3) := dk_153 0 7 (dk_at dksX6_wordAt_2 0 rfl rfl)
theorem dX6_wordAt_48 : decode cX6_wordAt 48 = .ok (.iconst 3, 1) := dk_6 (dk_at dksX6_wordAt_2 3 rfl rfl)
theorem dX6_wordAt_49 : decode cX6_wordAt 49 = .ok (.goto 44, 3) := dk_167 0 44 (dk_at dksX6_wordAt_2 4 rfl rfl)
theorem dX6_wordAt_52 : decode cX6_wordAt 52 = .ok (.aload_n 0, 1) := dk_42 (dk_at dksX6_wordAt_2 7 rfl rfl)
theorem dX6_wordAt_53 : decode cX6_wordAt 53 = .ok (.ldc 116, 2) := dk_18 116 (dk_at dksX6_wordAt_2 8 rfl rfl)
theorem dX6_wordAt_55 : decode cX6_wordAt 55 = .ok (.invokevirtual 106, 3) := dk_182 0 106 (dk_at dksX6_wordAt_2 10 rfl rfl)
theorem dX6_wordAt_58 : decode cX6_wordAt 58 = .ok (.ifCond .eq 7, 3) := dk_153 0 7 (dk_at dksX6_wordAt_2 13 rfl rfl)
theorem dX6_wordAt_61 : decode cX6_wordAt 61 = .ok (.iconst 4, 1) := dk_7 (dk_at dksX6_wordAt_2 16 rfl rfl)
theorem dX6_wordAt_62 : decode cX6_wordAt 62 = .ok (.goto 31, 3) := dk_167 0 31 (dk_at dksX6_wordAt_2 17 rfl rfl)
theorem dX6_wordAt_65 : decode cX6_wordAt 65 = .ok (.aload_n 0, 1) := dk_42 (dk_at dksX6_wordAt_2 20 rfl rfl)
theorem dX6_wordAt_66 : decode cX6_wordAt 66 = .ok (.ldc 118, 2) := dk_18 118 (dk_at dksX6_wordAt_2 21 rfl rfl)
theorem dX6_wordAt_68 : decode cX6_wordAt 68 = .ok (.invokevirtual 106, 3) := dk_182 0 106 (dk_at dksX6_wordAt_3 0 rfl rfl)
theorem dX6_wordAt_71 : decode cX6_wordAt 71 = .ok (.ifCond .eq 7, 3) := dk_153 0 7 (dk_at dksX6_wordAt_3 3 rfl rfl)
theorem dX6_wordAt_74 : decode cX6_wordAt 74 = .ok (.iconst 5, 1) := dk_8 (dk_at dksX6_wordAt_3 6 rfl rfl)
theorem dX6_wordAt_75 : decode cX6_wordAt 75 = .ok (.goto 18, 3) := dk_167 0 18 (dk_at dksX6_wordAt_3 7 rfl rfl)
theorem dX6_wordAt_78 : decode cX6_wordAt 78 = .ok (.aload_n 0, 1) := dk_42 (dk_at dksX6_wordAt_3 10 rfl rfl)
theorem dX6_wordAt_79 : decode cX6_wordAt 79 = .ok (.ldc 120, 2) := dk_18 120 (dk_at dksX6_wordAt_3 11 rfl rfl)
theorem dX6_wordAt_81 : decode cX6_wordAt 81 = .ok (.invokevirtual 106, 3) := dk_182 0 106 (dk_at dksX6_wordAt_3 13 rfl rfl)
theorem dX6_wordAt_84 : decode cX6_wordAt 84 = .ok (.ifCond .eq 8, 3) := dk_153 0 8 (dk_at dksX6_wordAt_3 16 rfl rfl)
theorem dX6_wordAt_87 : decode cX6_wordAt 87 = .ok (.bipush 6, 2) := dk_16 6 (dk_at dksX6_wordAt_3 19 rfl rfl)
theorem dX6_wordAt_89 : decode cX6_wordAt 89 = .ok (.goto 4, 3) := dk_167 0 4 (dk_at dksX6_wordAt_3 21 rfl rfl)
theorem dX6_wordAt_92 : decode cX6_wordAt 92 = .ok (.iconst (-1), 1) := dk_2 (dk_at dksX6_wordAt_4 0 rfl rfl)
theorem dX6_wordAt_93 : decode cX6_wordAt 93 = .ok (.ireturn, 1) := dk_172 (dk_at dksX6_wordAt_4 1 rfl rfl)
abbrev cX6_greatest : ByteArray := prog_16_method_13_code
def yX6_greatest : MethodName := ⟨RX6, "greatest", "(I)I"⟩
def dkwX6_greatest_2 : List UInt8 := [16, 40, 172, 8, 172, 16, 60, 172, 16, 16, 172, 16, 15, 172, 16, 9, 172, 16, 20, 172]
abbrev dktX6_greatest_2 : List UInt8 := dkwX6_greatest_2 ++ []
def dkwX6_greatest_1 : List UInt8 := [170, 0, 0, 0, 0, 0, 68, 0, 0, 0, 0, 0, 0, 0, 8, 0, 0, 0, 51, 0, 0, 0, 54, 0, 0, 0, 56, 0, 0, 0, 59, 0, 0, 0, 68, 0, 0, 0, 68, 0, 0, 0, 62, 0, 0, 0, 68, 0, 0, 0, 65]
abbrev dktX6_greatest_1 : List UInt8 := dkwX6_greatest_1 ++ dktX6_greatest_2
def dkwX6_greatest_0 : List UInt8 := [26]
abbrev dktX6_greatest_0 : List UInt8 := dkwX6_greatest_0 ++ dktX6_greatest_1
theorem dksX6_greatest_0 : cX6_greatest.data.toList.drop 0 = dktX6_greatest_0 := by decide +kernel
theorem dksX6_greatest_1 : cX6_greatest.data.toList.drop 1 = dktX6_greatest_1 := dk_seg dksX6_greatest_0 1 rfl rfl
theorem dksX6_greatest_2 : cX6_greatest.data.toList.drop 52 = dktX6_greatest_2 := dk_seg dksX6_greatest_1 51 rfl rfl
theorem dX6_greatest_0 : decode cX6_greatest 0 = .ok (.iload_n 0, 1) := dk_26 (dk_at dksX6_greatest_0 0 rfl rfl)
theorem dX6_greatest_1 : decode cX6_greatest 1 = .ok (.tableswitch 68 0 8 #[51, 54, 56, 59, 68, 68, 62, 68, 65], 51) := by decide +kernel
theorem dX6_greatest_52 : decode cX6_greatest 52 = .ok (.bipush 40, 2) := dk_16 40 (dk_at dksX6_greatest_2 0 rfl rfl)
theorem dX6_greatest_54 : decode cX6_greatest 54 = .ok (.ireturn, 1) := dk_172 (dk_at dksX6_greatest_2 2 rfl rfl)
theorem dX6_greatest_55 : decode cX6_greatest 55 = .ok (.iconst 5, 1) := dk_8 (dk_at dksX6_greatest_2 3 rfl rfl)
theorem dX6_greatest_56 : decode cX6_greatest 56 = .ok (.ireturn, 1) := dk_172 (dk_at dksX6_greatest_2 4 rfl rfl)
theorem dX6_greatest_57 : decode cX6_greatest 57 = .ok (.bipush 60, 2) := dk_16 60 (dk_at dksX6_greatest_2 5 rfl rfl)
theorem dX6_greatest_59 : decode cX6_greatest 59 = .ok (.ireturn, 1) := dk_172 (dk_at dksX6_greatest_2 7 rfl rfl)
theorem dX6_greatest_60 : decode cX6_greatest 60 = .ok (.bipush 16, 2) := dk_16 16 (dk_at dksX6_greatest_2 8 rfl rfl)
theorem dX6_greatest_62 : decode cX6_greatest 62 = .ok (.ireturn, 1) := dk_172 (dk_at dksX6_greatest_2 10 rfl rfl)
theorem dX6_greatest_63 : decode cX6_greatest 63 = .ok (.bipush 15, 2) := dk_16 15 (dk_at dksX6_greatest_2 11 rfl rfl)
theorem dX6_greatest_65 : decode cX6_greatest 65 = .ok (.ireturn, 1) := dk_172 (dk_at dksX6_greatest_2 13 rfl rfl)
theorem dX6_greatest_66 : decode cX6_greatest 66 = .ok (.bipush 9, 2) := dk_16 9 (dk_at dksX6_greatest_2 14 rfl rfl)
theorem dX6_greatest_68 : decode cX6_greatest 68 = .ok (.ireturn, 1) := dk_172 (dk_at dksX6_greatest_2 16 rfl rfl)
theorem dX6_greatest_69 : decode cX6_greatest 69 = .ok (.bipush 20, 2) := dk_16 20 (dk_at dksX6_greatest_2 17 rfl rfl)
theorem dX6_greatest_71 : decode cX6_greatest 71 = .ok (.ireturn, 1) := dk_172 (dk_at dksX6_greatest_2 19 rfl rfl)
abbrev cX6_close : ByteArray := prog_16_method_11_code
def yX6_close : MethodName := ⟨RX6, "close", "()Z"⟩
def dkwX6_close_0 : List UInt8 := [42, 180, 0, 27, 6, 159, 0, 9, 42, 4, 182, 0, 49, 172, 42, 182, 0, 63, 4, 172]
abbrev dktX6_close_0 : List UInt8 := dkwX6_close_0 ++ []
theorem dksX6_close_0 : cX6_close.data.toList.drop 0 = dktX6_close_0 := by decide +kernel
theorem dX6_close_0 : decode cX6_close 0 = .ok (.aload_n 0, 1) := dk_42 (dk_at dksX6_close_0 0 rfl rfl)
theorem dX6_close_1 : decode cX6_close 1 = .ok (.getfield 27, 3) := dk_180 0 27 (dk_at dksX6_close_0 1 rfl rfl)
theorem dX6_close_4 : decode cX6_close 4 = .ok (.iconst 3, 1) := dk_6 (dk_at dksX6_close_0 4 rfl rfl)
theorem dX6_close_5 : decode cX6_close 5 = .ok (.if_icmp .eq 9, 3) := dk_159 0 9 (dk_at dksX6_close_0 5 rfl rfl)
theorem dX6_close_8 : decode cX6_close 8 = .ok (.aload_n 0, 1) := dk_42 (dk_at dksX6_close_0 8 rfl rfl)
theorem dX6_close_9 : decode cX6_close 9 = .ok (.iconst 1, 1) := dk_4 (dk_at dksX6_close_0 9 rfl rfl)
theorem dX6_close_10 : decode cX6_close 10 = .ok (.invokevirtual 49, 3) := dk_182 0 49 (dk_at dksX6_close_0 10 rfl rfl)
theorem dX6_close_13 : decode cX6_close 13 = .ok (.ireturn, 1) := dk_172 (dk_at dksX6_close_0 13 rfl rfl)
theorem dX6_close_14 : decode cX6_close 14 = .ok (.aload_n 0, 1) := dk_42 (dk_at dksX6_close_0 14 rfl rfl)
theorem dX6_close_15 : decode cX6_close 15 = .ok (.invokevirtual 63, 3) := dk_182 0 63 (dk_at dksX6_close_0 15 rfl rfl)
theorem dX6_close_18 : decode cX6_close 18 = .ok (.iconst 1, 1) := dk_4 (dk_at dksX6_close_0 18 rfl rfl)
theorem dX6_close_19 : decode cX6_close 19 = .ok (.ireturn, 1) := dk_172 (dk_at dksX6_close_0 19 rfl rfl)
abbrev cX6_sea : ByteArray := prog_16_method_39_code
def yX6_sea : MethodName := ⟨RX6, "sea", "()I"⟩
def dkwX6_sea_5 : List UInt8 := [167, 255, 224, 42, 42, 180, 0, 191, 181, 1, 8, 42, 180, 1, 81, 172]
abbrev dktX6_sea_5 : List UInt8 := dkwX6_sea_5 ++ []
def dkwX6_sea_4 : List UInt8 := [27, 42, 180, 0, 181, 27, 46, 79, 42, 180, 1, 6, 27, 42, 180, 0, 188, 27, 46, 79, 132, 1, 1]
abbrev dktX6_sea_4 : List UInt8 := dkwX6_sea_4 ++ dktX6_sea_5
def dkwX6_sea_3 : List UInt8 := [42, 180, 0, 168, 27, 46, 79, 132, 1, 1, 167, 255, 236, 3, 60, 27, 5, 162, 0, 33, 42, 180, 1, 4]
abbrev dktX6_sea_3 : List UInt8 := dkwX6_sea_3 ++ dktX6_sea_4
def dkwX6_sea_2 : List UInt8 := [180, 0, 165, 27, 46, 79, 132, 1, 1, 167, 255, 231, 3, 60, 27, 7, 162, 0, 21, 42, 180, 1, 2, 27]
abbrev dktX6_sea_2 : List UInt8 := dkwX6_sea_2 ++ dktX6_sea_3
def dkwX6_sea_1 : List UInt8 := [180, 0, 131, 181, 1, 81, 3, 60, 27, 6, 42, 180, 1, 78, 104, 162, 0, 21, 42, 180, 1, 0, 27, 42]
abbrev dktX6_sea_1 : List UInt8 := dkwX6_sea_1 ++ dktX6_sea_2
def dkwX6_sea_0 : List UInt8 := [42, 182, 1, 66, 42, 182, 1, 75, 154, 0, 5, 2, 172, 42, 42, 180, 0, 162, 181, 1, 78, 42, 42]
abbrev dktX6_sea_0 : List UInt8 := dkwX6_sea_0 ++ dktX6_sea_1
theorem dksX6_sea_0 : cX6_sea.data.toList.drop 0 = dktX6_sea_0 := by decide +kernel
theorem dksX6_sea_1 : cX6_sea.data.toList.drop 23 = dktX6_sea_1 := dk_seg dksX6_sea_0 23 rfl rfl
theorem dksX6_sea_2 : cX6_sea.data.toList.drop 47 = dktX6_sea_2 := dk_seg dksX6_sea_1 24 rfl rfl
theorem dksX6_sea_3 : cX6_sea.data.toList.drop 71 = dktX6_sea_3 := dk_seg dksX6_sea_2 24 rfl rfl
theorem dksX6_sea_4 : cX6_sea.data.toList.drop 95 = dktX6_sea_4 := dk_seg dksX6_sea_3 24 rfl rfl
theorem dksX6_sea_5 : cX6_sea.data.toList.drop 118 = dktX6_sea_5 := dk_seg dksX6_sea_4 23 rfl rfl
theorem dX6_sea_0 : decode cX6_sea 0 = .ok (.aload_n 0, 1) := dk_42 (dk_at dksX6_sea_0 0 rfl rfl)
theorem dX6_sea_1 : decode cX6_sea 1 = .ok (.invokevirtual 322, 3) := dk_182 1 66 (dk_at dksX6_sea_0 1 rfl rfl)
theorem dX6_sea_4 : decode cX6_sea 4 = .ok (.aload_n 0, 1) := dk_42 (dk_at dksX6_sea_0 4 rfl rfl)
theorem dX6_sea_5 : decode cX6_sea 5 = .ok (.invokevirtual 331, 3) := dk_182 1 75 (dk_at dksX6_sea_0 5 rfl rfl)
theorem dX6_sea_8 : decode cX6_sea 8 = .ok (.ifCond .ne 5, 3) := dk_154 0 5 (dk_at dksX6_sea_0 8 rfl rfl)
theorem dX6_sea_11 : decode cX6_sea 11 = .ok (.iconst (-1), 1) := dk_2 (dk_at dksX6_sea_0 11 rfl rfl)
theorem dX6_sea_12 : decode cX6_sea 12 = .ok (.ireturn, 1) := dk_172 (dk_at dksX6_sea_0 12 rfl rfl)
theorem dX6_sea_13 : decode cX6_sea 13 = .ok (.aload_n 0, 1) := dk_42 (dk_at dksX6_sea_0 13 rfl rfl)
theorem dX6_sea_14 : decode cX6_sea 14 = .ok (.aload_n 0, 1) := dk_42 (dk_at dksX6_sea_0 14 rfl rfl)
theorem dX6_sea_15 : decode cX6_sea 15 = .ok (.getfield 162, 3) := dk_180 0 162 (dk_at dksX6_sea_0 15 rfl rfl)
theorem dX6_sea_18 : decode cX6_sea 18 = .ok (.putfield 334, 3) := dk_181 1 78 (dk_at dksX6_sea_0 18 rfl rfl)
theorem dX6_sea_21 : decode cX6_sea 21 = .ok (.aload_n 0, 1) := dk_42 (dk_at dksX6_sea_0 21 rfl rfl)
theorem dX6_sea_22 : decode cX6_sea 22 = .ok (.aload_n 0, 1) := dk_42 (dk_at dksX6_sea_0 22 rfl rfl)
theorem dX6_sea_23 : decode cX6_sea 23 = .ok (.getfield 131, 3) := dk_180 0 131 (dk_at dksX6_sea_1 0 rfl rfl)
theorem dX6_sea_26 : decode cX6_sea 26 = .ok (.putfield 337, 3) := dk_181 1 81 (dk_at dksX6_sea_1 3 rfl rfl)
theorem dX6_sea_29 : decode cX6_sea 29 = .ok (.iconst 0, 1) := dk_3 (dk_at dksX6_sea_1 6 rfl rfl)
theorem dX6_sea_30 : decode cX6_sea 30 = .ok (.istore_n 1, 1) := dk_60 (dk_at dksX6_sea_1 7 rfl rfl)
theorem dX6_sea_31 : decode cX6_sea 31 = .ok (.iload_n 1, 1) := dk_27 (dk_at dksX6_sea_1 8 rfl rfl)
theorem dX6_sea_32 : decode cX6_sea 32 = .ok (.iconst 3, 1) := dk_6 (dk_at dksX6_sea_1 9 rfl rfl)
theorem dX6_sea_33 : decode cX6_sea 33 = .ok (.aload_n 0, 1) := dk_42 (dk_at dksX6_sea_1 10 rfl rfl)
theorem dX6_sea_34 : decode cX6_sea 34 = .ok (.getfield 334, 3) := dk_180 1 78 (dk_at dksX6_sea_1 11 rfl rfl)
theorem dX6_sea_37 : decode cX6_sea 37 = .ok (.imul, 1) := dk_104 (dk_at dksX6_sea_1 14 rfl rfl)
theorem dX6_sea_38 : decode cX6_sea 38 = .ok (.if_icmp .ge 21, 3) := dk_162 0 21 (dk_at dksX6_sea_1 15 rfl rfl)
theorem dX6_sea_41 : decode cX6_sea 41 = .ok (.aload_n 0, 1) := dk_42 (dk_at dksX6_sea_1 18 rfl rfl)
theorem dX6_sea_42 : decode cX6_sea 42 = .ok (.getfield 256, 3) := dk_180 1 0 (dk_at dksX6_sea_1 19 rfl rfl)
theorem dX6_sea_45 : decode cX6_sea 45 = .ok (.iload_n 1, 1) := dk_27 (dk_at dksX6_sea_1 22 rfl rfl)
theorem dX6_sea_46 : decode cX6_sea 46 = .ok (.aload_n 0, 1) := dk_42 (dk_at dksX6_sea_1 23 rfl rfl)
theorem dX6_sea_47 : decode cX6_sea 47 = .ok (.getfield 165, 3) := dk_180 0 165 (dk_at dksX6_sea_2 0 rfl rfl)
theorem dX6_sea_50 : decode cX6_sea 50 = .ok (.iload_n 1, 1) := dk_27 (dk_at dksX6_sea_2 3 rfl rfl)
theorem dX6_sea_51 : decode cX6_sea 51 = .ok (.iaload, 1) := dk_46 (dk_at dksX6_sea_2 4 rfl rfl)
theorem dX6_sea_52 : decode cX6_sea 52 = .ok (.iastore, 1) := dk_79 (dk_at dksX6_sea_2 5 rfl rfl)
theorem dX6_sea_53 : decode cX6_sea 53 = .ok (.iinc 1 1, 3) := dk_132 1 1 (dk_at dksX6_sea_2 6 rfl rfl)
theorem dX6_sea_56 : decode cX6_sea 56 = .ok (.goto (-25), 3) := dk_167 255 231 (dk_at dksX6_sea_2 9 rfl rfl)
theorem dX6_sea_59 : decode cX6_sea 59 = .ok (.iconst 0, 1) := dk_3 (dk_at dksX6_sea_2 12 rfl rfl)
theorem dX6_sea_60 : decode cX6_sea 60 = .ok (.istore_n 1, 1) := dk_60 (dk_at dksX6_sea_2 13 rfl rfl)
theorem dX6_sea_61 : decode cX6_sea 61 = .ok (.iload_n 1, 1) := dk_27 (dk_at dksX6_sea_2 14 rfl rfl)
theorem dX6_sea_62 : decode cX6_sea 62 = .ok (.iconst 4, 1) := dk_7 (dk_at dksX6_sea_2 15 rfl rfl)
theorem dX6_sea_63 : decode cX6_sea 63 = .ok (.if_icmp .ge 21, 3) := dk_162 0 21 (dk_at dksX6_sea_2 16 rfl rfl)
theorem dX6_sea_66 : decode cX6_sea 66 = .ok (.aload_n 0, 1) := dk_42 (dk_at dksX6_sea_2 19 rfl rfl)
theorem dX6_sea_67 : decode cX6_sea 67 = .ok (.getfield 258, 3) := dk_180 1 2 (dk_at dksX6_sea_2 20 rfl rfl)
theorem dX6_sea_70 : decode cX6_sea 70 = .ok (.iload_n 1, 1) := dk_27 (dk_at dksX6_sea_2 23 rfl rfl)
theorem dX6_sea_71 : decode cX6_sea 71 = .ok (.aload_n 0, 1) := dk_42 (dk_at dksX6_sea_3 0 rfl rfl)
theorem dX6_sea_72 : decode cX6_sea 72 = .ok (.getfield 168, 3) := dk_180 0 168 (dk_at dksX6_sea_3 1 rfl rfl)
theorem dX6_sea_75 : decode cX6_sea 75 = .ok (.iload_n 1, 1) := dk_27 (dk_at dksX6_sea_3 4 rfl rfl)
theorem dX6_sea_76 : decode cX6_sea 76 = .ok (.iaload, 1) := dk_46 (dk_at dksX6_sea_3 5 rfl rfl)
theorem dX6_sea_77 : decode cX6_sea 77 = .ok (.iastore, 1) := dk_79 (dk_at dksX6_sea_3 6 rfl rfl)
theorem dX6_sea_78 : decode cX6_sea 78 = .ok (.iinc 1 1, 3) := dk_132 1 1 (dk_at dksX6_sea_3 7 rfl rfl)
theorem dX6_sea_81 : decode cX6_sea 81 = .ok (.goto (-20), 3) := dk_167 255 236 (dk_at dksX6_sea_3 10 rfl rfl)
theorem dX6_sea_84 : decode cX6_sea 84 = .ok (.iconst 0, 1) := dk_3 (dk_at dksX6_sea_3 13 rfl rfl)
theorem dX6_sea_85 : decode cX6_sea 85 = .ok (.istore_n 1, 1) := dk_60 (dk_at dksX6_sea_3 14 rfl rfl)
theorem dX6_sea_86 : decode cX6_sea 86 = .ok (.iload_n 1, 1) := dk_27 (dk_at dksX6_sea_3 15 rfl rfl)
theorem dX6_sea_87 : decode cX6_sea 87 = .ok (.iconst 2, 1) := dk_5 (dk_at dksX6_sea_3 16 rfl rfl)
theorem dX6_sea_88 : decode cX6_sea 88 = .ok (.if_icmp .ge 33, 3) := dk_162 0 33 (dk_at dksX6_sea_3 17 rfl rfl)
theorem dX6_sea_91 : decode cX6_sea 91 = .ok (.aload_n 0, 1) := dk_42 (dk_at dksX6_sea_3 20 rfl rfl)
theorem dX6_sea_92 : decode cX6_sea 92 = .ok (.getfield 260, 3) := dk_180 1 4 (dk_at dksX6_sea_3 21 rfl rfl)
theorem dX6_sea_95 : decode cX6_sea 95 = .ok (.iload_n 1, 1) := dk_27 (dk_at dksX6_sea_4 0 rfl rfl)
theorem dX6_sea_96 : decode cX6_sea 96 = .ok (.aload_n 0, 1) := dk_42 (dk_at dksX6_sea_4 1 rfl rfl)
theorem dX6_sea_97 : decode cX6_sea 97 = .ok (.getfield 181, 3) := dk_180 0 181 (dk_at dksX6_sea_4 2 rfl rfl)
theorem dX6_sea_100 : decode cX6_sea 100 = .ok (.iload_n 1, 1) := dk_27 (dk_at dksX6_sea_4 5 rfl rfl)
theorem dX6_sea_101 : decode cX6_sea 101 = .ok (.iaload, 1) := dk_46 (dk_at dksX6_sea_4 6 rfl rfl)
theorem dX6_sea_102 : decode cX6_sea 102 = .ok (.iastore, 1) := dk_79 (dk_at dksX6_sea_4 7 rfl rfl)
theorem dX6_sea_103 : decode cX6_sea 103 = .ok (.aload_n 0, 1) := dk_42 (dk_at dksX6_sea_4 8 rfl rfl)
theorem dX6_sea_104 : decode cX6_sea 104 = .ok (.getfield 262, 3) := dk_180 1 6 (dk_at dksX6_sea_4 9 rfl rfl)
theorem dX6_sea_107 : decode cX6_sea 107 = .ok (.iload_n 1, 1) := dk_27 (dk_at dksX6_sea_4 12 rfl rfl)
theorem dX6_sea_108 : decode cX6_sea 108 = .ok (.aload_n 0, 1) := dk_42 (dk_at dksX6_sea_4 13 rfl rfl)
theorem dX6_sea_109 : decode cX6_sea 109 = .ok (.getfield 188, 3) := dk_180 0 188 (dk_at dksX6_sea_4 14 rfl rfl)
theorem dX6_sea_112 : decode cX6_sea 112 = .ok (.iload_n 1, 1) := dk_27 (dk_at dksX6_sea_4 17 rfl rfl)
theorem dX6_sea_113 : decode cX6_sea 113 = .ok (.iaload, 1) := dk_46 (dk_at dksX6_sea_4 18 rfl rfl)
theorem dX6_sea_114 : decode cX6_sea 114 = .ok (.iastore, 1) := dk_79 (dk_at dksX6_sea_4 19 rfl rfl)
theorem dX6_sea_115 : decode cX6_sea 115 = .ok (.iinc 1 1, 3) := dk_132 1 1 (dk_at dksX6_sea_4 20 rfl rfl)
theorem dX6_sea_118 : decode cX6_sea 118 = .ok (.goto (-32), 3) := dk_167 255 224 (dk_at dksX6_sea_5 0 rfl rfl)
theorem dX6_sea_121 : decode cX6_sea 121 = .ok (.aload_n 0, 1) := dk_42 (dk_at dksX6_sea_5 3 rfl rfl)
theorem dX6_sea_122 : decode cX6_sea 122 = .ok (.aload_n 0, 1) := dk_42 (dk_at dksX6_sea_5 4 rfl rfl)
theorem dX6_sea_123 : decode cX6_sea 123 = .ok (.getfield 191, 3) := dk_180 0 191 (dk_at dksX6_sea_5 5 rfl rfl)
theorem dX6_sea_126 : decode cX6_sea 126 = .ok (.putfield 264, 3) := dk_181 1 8 (dk_at dksX6_sea_5 8 rfl rfl)
theorem dX6_sea_129 : decode cX6_sea 129 = .ok (.aload_n 0, 1) := dk_42 (dk_at dksX6_sea_5 11 rfl rfl)
theorem dX6_sea_130 : decode cX6_sea 130 = .ok (.getfield 337, 3) := dk_180 1 81 (dk_at dksX6_sea_5 12 rfl rfl)
theorem dX6_sea_133 : decode cX6_sea 133 = .ok (.ireturn, 1) := dk_172 (dk_at dksX6_sea_5 15 rfl rfl)
abbrev cX6_readSea : ByteArray := prog_16_method_26_code
def yX6_readSea : MethodName := ⟨RX6, "readSea", "()Z"⟩
def dkwX6_readSea_5 : List UInt8 := [4, 96, 181, 0, 131, 167, 255, 204, 4, 172]
abbrev dktX6_readSea_5 : List UInt8 := dkwX6_readSea_5 ++ []
def dkwX6_readSea_4 : List UInt8 := [167, 0, 10, 42, 182, 0, 198, 153, 0, 10, 42, 182, 0, 159, 154, 0, 5, 3, 172, 42, 89, 180, 0, 131]
abbrev dktX6_readSea_4 : List UInt8 := dkwX6_readSea_4 ++ dktX6_readSea_5
def dkwX6_readSea_3 : List UInt8 := [180, 0, 27, 153, 0, 51, 42, 18, 194, 182, 0, 106, 153, 0, 13, 42, 182, 0, 196, 153, 0, 20]
abbrev dktX6_readSea_3 : List UInt8 := dkwX6_readSea_3 ++ dktX6_readSea_4
def dkwX6_readSea_2 : List UInt8 := [6, 79, 42, 180, 0, 188, 3, 7, 79, 42, 180, 0, 188, 4, 16, 8, 79, 42, 4, 181, 0, 191, 42]
abbrev dktX6_readSea_2 : List UInt8 := dkwX6_readSea_2 ++ dktX6_readSea_3
def dkwX6_readSea_1 : List UInt8 := [180, 0, 168, 27, 2, 79, 132, 1, 1, 167, 255, 241, 42, 180, 0, 181, 3, 4, 79, 42, 180, 0, 181, 4]
abbrev dktX6_readSea_1 : List UInt8 := dkwX6_readSea_1 ++ dktX6_readSea_2
def dkwX6_readSea_0 : List UInt8 := [42, 3, 181, 0, 162, 42, 3, 181, 0, 101, 42, 3, 181, 0, 131, 3, 60, 27, 7, 162, 0, 16, 42]
abbrev dktX6_readSea_0 : List UInt8 := dkwX6_readSea_0 ++ dktX6_readSea_1
theorem dksX6_readSea_0 : cX6_readSea.data.toList.drop 0 = dktX6_readSea_0 := by decide +kernel
theorem dksX6_readSea_1 : cX6_readSea.data.toList.drop 23 = dktX6_readSea_1 := dk_seg dksX6_readSea_0 23 rfl rfl
theorem dksX6_readSea_2 : cX6_readSea.data.toList.drop 47 = dktX6_readSea_2 := dk_seg dksX6_readSea_1 24 rfl rfl
theorem dksX6_readSea_3 : cX6_readSea.data.toList.drop 70 = dktX6_readSea_3 := dk_seg dksX6_readSea_2 23 rfl rfl
theorem dksX6_readSea_4 : cX6_readSea.data.toList.drop 92 = dktX6_readSea_4 := dk_seg dksX6_readSea_3 22 rfl rfl
theorem dksX6_readSea_5 : cX6_readSea.data.toList.drop 116 = dktX6_readSea_5 := dk_seg dksX6_readSea_4 24 rfl rfl
theorem dX6_readSea_0 : decode cX6_readSea 0 = .ok (.aload_n 0, 1) := dk_42 (dk_at dksX6_readSea_0 0 rfl rfl)
theorem dX6_readSea_1 : decode cX6_readSea 1 = .ok (.iconst 0, 1) := dk_3 (dk_at dksX6_readSea_0 1 rfl rfl)
theorem dX6_readSea_2 : decode cX6_readSea 2 = .ok (.putfield 162, 3) := dk_181 0 162 (dk_at dksX6_readSea_0 2 rfl rfl)
theorem dX6_readSea_5 : decode cX6_readSea 5 = .ok (.aload_n 0, 1) := dk_42 (dk_at dksX6_readSea_0 5 rfl rfl)
theorem dX6_readSea_6 : decode cX6_readSea 6 = .ok (.iconst 0, 1) := dk_3 (dk_at dksX6_readSea_0 6 rfl rfl)
theorem dX6_readSea_7 : decode cX6_readSea 7 = .ok (.putfield 101, 3) := dk_181 0 101 (dk_at dksX6_readSea_0 7 rfl rfl)
theorem dX6_readSea_10 : decode cX6_readSea 10 = .ok (.aload_n 0, 1) := dk_42 (dk_at dksX6_readSea_0 10 rfl rfl)
theorem dX6_readSea_11 : decode cX6_readSea 11 = .ok (.iconst 0, 1) := dk_3 (dk_at dksX6_readSea_0 11 rfl rfl)
theorem dX6_readSea_12 : decode cX6_readSea 12 = .ok (.putfield 131, 3) := dk_181 0 131 (dk_at dksX6_readSea_0 12 rfl rfl)
theorem dX6_readSea_15 : decode cX6_readSea 15 = .ok (.iconst 0, 1) := dk_3 (dk_at dksX6_readSea_0 15 rfl rfl)
theorem dX6_readSea_16 : decode cX6_readSea 16 = .ok (.istore_n 1, 1) := dk_60 (dk_at dksX6_readSea_0 16 rfl rfl)
theorem dX6_readSea_17 : decode cX6_readSea 17 = .ok (.iload_n 1, 1) := dk_27 (dk_at dksX6_readSea_0 17 rfl rfl)
theorem dX6_readSea_18 : decode cX6_readSea 18 = .ok (.iconst 4, 1) := dk_7 (dk_at dksX6_readSea_0 18 rfl rfl)
theorem dX6_readSea_19 : decode cX6_readSea 19 = .ok (.if_icmp .ge 16, 3) := dk_162 0 16 (dk_at dksX6_readSea_0 19 rfl rfl)
theorem dX6_readSea_22 : decode cX6_readSea 22 = .ok (.aload_n 0, 1) := dk_42 (dk_at dksX6_readSea_0 22 rfl rfl)
theorem dX6_readSea_23 : decode cX6_readSea 23 = .ok (.getfield 168, 3) := dk_180 0 168 (dk_at dksX6_readSea_1 0 rfl rfl)
theorem dX6_readSea_26 : decode cX6_readSea 26 = .ok (.iload_n 1, 1) := dk_27 (dk_at dksX6_readSea_1 3 rfl rfl)
theorem dX6_readSea_27 : decode cX6_readSea 27 = .ok (.iconst (-1), 1) := dk_2 (dk_at dksX6_readSea_1 4 rfl rfl)
theorem dX6_readSea_28 : decode cX6_readSea 28 = .ok (.iastore, 1) := dk_79 (dk_at dksX6_readSea_1 5 rfl rfl)
theorem dX6_readSea_29 : decode cX6_readSea 29 = .ok (.iinc 1 1, 3) := dk_132 1 1 (dk_at dksX6_readSea_1 6 rfl rfl)
theorem dX6_readSea_32 : decode cX6_readSea 32 = .ok (.goto (-15), 3) := dk_167 255 241 (dk_at dksX6_readSea_1 9 rfl rfl)
theorem dX6_readSea_35 : decode cX6_readSea 35 = .ok (.aload_n 0, 1) := dk_42 (dk_at dksX6_readSea_1 12 rfl rfl)
theorem dX6_readSea_36 : decode cX6_readSea 36 = .ok (.getfield 181, 3) := dk_180 0 181 (dk_at dksX6_readSea_1 13 rfl rfl)
theorem dX6_readSea_39 : decode cX6_readSea 39 = .ok (.iconst 0, 1) := dk_3 (dk_at dksX6_readSea_1 16 rfl rfl)
theorem dX6_readSea_40 : decode cX6_readSea 40 = .ok (.iconst 1, 1) := dk_4 (dk_at dksX6_readSea_1 17 rfl rfl)
theorem dX6_readSea_41 : decode cX6_readSea 41 = .ok (.iastore, 1) := dk_79 (dk_at dksX6_readSea_1 18 rfl rfl)
theorem dX6_readSea_42 : decode cX6_readSea 42 = .ok (.aload_n 0, 1) := dk_42 (dk_at dksX6_readSea_1 19 rfl rfl)
theorem dX6_readSea_43 : decode cX6_readSea 43 = .ok (.getfield 181, 3) := dk_180 0 181 (dk_at dksX6_readSea_1 20 rfl rfl)
theorem dX6_readSea_46 : decode cX6_readSea 46 = .ok (.iconst 1, 1) := dk_4 (dk_at dksX6_readSea_1 23 rfl rfl)
theorem dX6_readSea_47 : decode cX6_readSea 47 = .ok (.iconst 3, 1) := dk_6 (dk_at dksX6_readSea_2 0 rfl rfl)
theorem dX6_readSea_48 : decode cX6_readSea 48 = .ok (.iastore, 1) := dk_79 (dk_at dksX6_readSea_2 1 rfl rfl)
theorem dX6_readSea_49 : decode cX6_readSea 49 = .ok (.aload_n 0, 1) := dk_42 (dk_at dksX6_readSea_2 2 rfl rfl)
theorem dX6_readSea_50 : decode cX6_readSea 50 = .ok (.getfield 188, 3) := dk_180 0 188 (dk_at dksX6_readSea_2 3 rfl rfl)
theorem dX6_readSea_53 : decode cX6_readSea 53 = .ok (.iconst 0, 1) := dk_3 (dk_at dksX6_readSea_2 6 rfl rfl)
theorem dX6_readSea_54 : decode cX6_readSea 54 = .ok (.iconst 4, 1) := dk_7 (dk_at dksX6_readSea_2 7 rfl rfl)
theorem dX6_readSea_55 : decode cX6_readSea 55 = .ok (.iastore, 1) := dk_79 (dk_at dksX6_readSea_2 8 rfl rfl)
theorem dX6_readSea_56 : decode cX6_readSea 56 = .ok (.aload_n 0, 1) := dk_42 (dk_at dksX6_readSea_2 9 rfl rfl)
theorem dX6_readSea_57 : decode cX6_readSea 57 = .ok (.getfield 188, 3) := dk_180 0 188 (dk_at dksX6_readSea_2 10 rfl rfl)
theorem dX6_readSea_60 : decode cX6_readSea 60 = .ok (.iconst 1, 1) := dk_4 (dk_at dksX6_readSea_2 13 rfl rfl)
theorem dX6_readSea_61 : decode cX6_readSea 61 = .ok (.bipush 8, 2) := dk_16 8 (dk_at dksX6_readSea_2 14 rfl rfl)
theorem dX6_readSea_63 : decode cX6_readSea 63 = .ok (.iastore, 1) := dk_79 (dk_at dksX6_readSea_2 16 rfl rfl)
theorem dX6_readSea_64 : decode cX6_readSea 64 = .ok (.aload_n 0, 1) := dk_42 (dk_at dksX6_readSea_2 17 rfl rfl)
theorem dX6_readSea_65 : decode cX6_readSea 65 = .ok (.iconst 1, 1) := dk_4 (dk_at dksX6_readSea_2 18 rfl rfl)
theorem dX6_readSea_66 : decode cX6_readSea 66 = .ok (.putfield 191, 3) := dk_181 0 191 (dk_at dksX6_readSea_2 19 rfl rfl)
theorem dX6_readSea_69 : decode cX6_readSea 69 = .ok (.aload_n 0, 1) := dk_42 (dk_at dksX6_readSea_2 22 rfl rfl)
theorem dX6_readSea_70 : decode cX6_readSea 70 = .ok (.getfield 27, 3) := dk_180 0 27 (dk_at dksX6_readSea_3 0 rfl rfl)
theorem dX6_readSea_73 : decode cX6_readSea 73 = .ok (.ifCond .eq 51, 3) := dk_153 0 51 (dk_at dksX6_readSea_3 3 rfl rfl)
theorem dX6_readSea_76 : decode cX6_readSea 76 = .ok (.aload_n 0, 1) := dk_42 (dk_at dksX6_readSea_3 6 rfl rfl)
theorem dX6_readSea_77 : decode cX6_readSea 77 = .ok (.ldc 194, 2) := dk_18 194 (dk_at dksX6_readSea_3 7 rfl rfl)
theorem dX6_readSea_79 : decode cX6_readSea 79 = .ok (.invokevirtual 106, 3) := dk_182 0 106 (dk_at dksX6_readSea_3 9 rfl rfl)
theorem dX6_readSea_82 : decode cX6_readSea 82 = .ok (.ifCond .eq 13, 3) := dk_153 0 13 (dk_at dksX6_readSea_3 12 rfl rfl)
theorem dX6_readSea_85 : decode cX6_readSea 85 = .ok (.aload_n 0, 1) := dk_42 (dk_at dksX6_readSea_3 15 rfl rfl)
theorem dX6_readSea_86 : decode cX6_readSea 86 = .ok (.invokevirtual 196, 3) := dk_182 0 196 (dk_at dksX6_readSea_3 16 rfl rfl)
theorem dX6_readSea_89 : decode cX6_readSea 89 = .ok (.ifCond .eq 20, 3) := dk_153 0 20 (dk_at dksX6_readSea_3 19 rfl rfl)
theorem dX6_readSea_92 : decode cX6_readSea 92 = .ok (.goto 10, 3) := dk_167 0 10 (dk_at dksX6_readSea_4 0 rfl rfl)
theorem dX6_readSea_95 : decode cX6_readSea 95 = .ok (.aload_n 0, 1) := dk_42 (dk_at dksX6_readSea_4 3 rfl rfl)
theorem dX6_readSea_96 : decode cX6_readSea 96 = .ok (.invokevirtual 198, 3) := dk_182 0 198 (dk_at dksX6_readSea_4 4 rfl rfl)
theorem dX6_readSea_99 : decode cX6_readSea 99 = .ok (.ifCond .eq 10, 3) := dk_153 0 10 (dk_at dksX6_readSea_4 7 rfl rfl)
theorem dX6_readSea_102 : decode cX6_readSea 102 = .ok (.aload_n 0, 1) := dk_42 (dk_at dksX6_readSea_4 10 rfl rfl)
theorem dX6_readSea_103 : decode cX6_readSea 103 = .ok (.invokevirtual 159, 3) := dk_182 0 159 (dk_at dksX6_readSea_4 11 rfl rfl)
theorem dX6_readSea_106 : decode cX6_readSea 106 = .ok (.ifCond .ne 5, 3) := dk_154 0 5 (dk_at dksX6_readSea_4 14 rfl rfl)
theorem dX6_readSea_109 : decode cX6_readSea 109 = .ok (.iconst 0, 1) := dk_3 (dk_at dksX6_readSea_4 17 rfl rfl)
theorem dX6_readSea_110 : decode cX6_readSea 110 = .ok (.ireturn, 1) := dk_172 (dk_at dksX6_readSea_4 18 rfl rfl)
theorem dX6_readSea_111 : decode cX6_readSea 111 = .ok (.aload_n 0, 1) := dk_42 (dk_at dksX6_readSea_4 19 rfl rfl)
theorem dX6_readSea_112 : decode cX6_readSea 112 = .ok (.dup, 1) := dk_89 (dk_at dksX6_readSea_4 20 rfl rfl)
theorem dX6_readSea_113 : decode cX6_readSea 113 = .ok (.getfield 131, 3) := dk_180 0 131 (dk_at dksX6_readSea_4 21 rfl rfl)
theorem dX6_readSea_116 : decode cX6_readSea 116 = .ok (.iconst 1, 1) := dk_4 (dk_at dksX6_readSea_5 0 rfl rfl)
theorem dX6_readSea_117 : decode cX6_readSea 117 = .ok (.iadd, 1) := dk_96 (dk_at dksX6_readSea_5 1 rfl rfl)
theorem dX6_readSea_118 : decode cX6_readSea 118 = .ok (.putfield 131, 3) := dk_181 0 131 (dk_at dksX6_readSea_5 2 rfl rfl)
theorem dX6_readSea_121 : decode cX6_readSea 121 = .ok (.goto (-52), 3) := dk_167 255 204 (dk_at dksX6_readSea_5 5 rfl rfl)
theorem dX6_readSea_124 : decode cX6_readSea 124 = .ok (.iconst 1, 1) := dk_4 (dk_at dksX6_readSea_5 8 rfl rfl)
theorem dX6_readSea_125 : decode cX6_readSea 125 = .ok (.ireturn, 1) := dk_172 (dk_at dksX6_readSea_5 9 rfl rfl)
abbrev cX6_readWave : ByteArray := prog_16_method_22_code
def yX6_readWave : MethodName := ⟨RX6, "readWave", "()Z"⟩
def dkwX6_readWave_4 : List UInt8 := [180, 0, 162, 104, 5, 96, 42, 180, 0, 56, 79, 42, 89, 180, 0, 162, 4, 96, 181, 0, 162, 4, 172]
abbrev dktX6_readWave_4 : List UInt8 := dkwX6_readWave_4 ++ []
def dkwX6_readWave_3 : List UInt8 := [180, 0, 56, 79, 42, 3, 16, 99, 182, 0, 70, 154, 0, 5, 3, 172, 42, 180, 0, 165, 6, 42]
abbrev dktX6_readWave_3 : List UInt8 := dkwX6_readWave_3 ++ dktX6_readWave_4
def dkwX6_readWave_2 : List UInt8 := [4, 16, 8, 182, 0, 70, 154, 0, 5, 3, 172, 42, 180, 0, 165, 6, 42, 180, 0, 162, 104, 4, 96, 42]
abbrev dktX6_readWave_2 : List UInt8 := dkwX6_readWave_2 ++ dktX6_readWave_3
def dkwX6_readWave_1 : List UInt8 := [182, 0, 70, 154, 0, 5, 3, 172, 42, 180, 0, 165, 6, 42, 180, 0, 162, 104, 42, 180, 0, 56, 79, 42]
abbrev dktX6_readWave_1 : List UInt8 := dkwX6_readWave_1 ++ dktX6_readWave_2
def dkwX6_readWave_0 : List UInt8 := [42, 180, 0, 162, 16, 12, 160, 0, 9, 42, 7, 182, 0, 49, 172, 42, 182, 0, 63, 42, 3, 17, 1, 103]
abbrev dktX6_readWave_0 : List UInt8 := dkwX6_readWave_0 ++ dktX6_readWave_1
theorem dksX6_readWave_0 : cX6_readWave.data.toList.drop 0 = dktX6_readWave_0 := by decide +kernel
theorem dksX6_readWave_1 : cX6_readWave.data.toList.drop 24 = dktX6_readWave_1 := dk_seg dksX6_readWave_0 24 rfl rfl
theorem dksX6_readWave_2 : cX6_readWave.data.toList.drop 48 = dktX6_readWave_2 := dk_seg dksX6_readWave_1 24 rfl rfl
theorem dksX6_readWave_3 : cX6_readWave.data.toList.drop 72 = dktX6_readWave_3 := dk_seg dksX6_readWave_2 24 rfl rfl
theorem dksX6_readWave_4 : cX6_readWave.data.toList.drop 94 = dktX6_readWave_4 := dk_seg dksX6_readWave_3 22 rfl rfl
theorem dX6_readWave_0 : decode cX6_readWave 0 = .ok (.aload_n 0, 1) := dk_42 (dk_at dksX6_readWave_0 0 rfl rfl)
theorem dX6_readWave_1 : decode cX6_readWave 1 = .ok (.getfield 162, 3) := dk_180 0 162 (dk_at dksX6_readWave_0 1 rfl rfl)
theorem dX6_readWave_4 : decode cX6_readWave 4 = .ok (.bipush 12, 2) := dk_16 12 (dk_at dksX6_readWave_0 4 rfl rfl)
theorem dX6_readWave_6 : decode cX6_readWave 6 = .ok (.if_icmp .ne 9, 3) := dk_160 0 9 (dk_at dksX6_readWave_0 6 rfl rfl)
theorem dX6_readWave_9 : decode cX6_readWave 9 = .ok (.aload_n 0, 1) := dk_42 (dk_at dksX6_readWave_0 9 rfl rfl)
theorem dX6_readWave_10 : decode cX6_readWave 10 = .ok (.iconst 4, 1) := dk_7 (dk_at dksX6_readWave_0 10 rfl rfl)
theorem dX6_readWave_11 : decode cX6_readWave 11 = .ok (.invokevirtual 49, 3) := dk_182 0 49 (dk_at dksX6_readWave_0 11 rfl rfl)
theorem dX6_readWave_14 : decode cX6_readWave 14 = .ok (.ireturn, 1) := dk_172 (dk_at dksX6_readWave_0 14 rfl rfl)
theorem dX6_readWave_15 : decode cX6_readWave 15 = .ok (.aload_n 0, 1) := dk_42 (dk_at dksX6_readWave_0 15 rfl rfl)
theorem dX6_readWave_16 : decode cX6_readWave 16 = .ok (.invokevirtual 63, 3) := dk_182 0 63 (dk_at dksX6_readWave_0 16 rfl rfl)
theorem dX6_readWave_19 : decode cX6_readWave 19 = .ok (.aload_n 0, 1) := dk_42 (dk_at dksX6_readWave_0 19 rfl rfl)
theorem dX6_readWave_20 : decode cX6_readWave 20 = .ok (.iconst 0, 1) := dk_3 (dk_at dksX6_readWave_0 20 rfl rfl)
theorem dX6_readWave_21 : decode cX6_readWave 21 = .ok (.sipush 359, 3) := dk_17 1 103 (dk_at dksX6_readWave_0 21 rfl rfl)
theorem dX6_readWave_24 : decode cX6_readWave 24 = .ok (.invokevirtual 70, 3) := dk_182 0 70 (dk_at dksX6_readWave_1 0 rfl rfl)
theorem dX6_readWave_27 : decode cX6_readWave 27 = .ok (.ifCond .ne 5, 3) := dk_154 0 5 (dk_at dksX6_readWave_1 3 rfl rfl)
theorem dX6_readWave_30 : decode cX6_readWave 30 = .ok (.iconst 0, 1) := dk_3 (dk_at dksX6_readWave_1 6 rfl rfl)
theorem dX6_readWave_31 : decode cX6_readWave 31 = .ok (.ireturn, 1) := dk_172 (dk_at dksX6_readWave_1 7 rfl rfl)
theorem dX6_readWave_32 : decode cX6_readWave 32 = .ok (.aload_n 0, 1) := dk_42 (dk_at dksX6_readWave_1 8 rfl rfl)
theorem dX6_readWave_33 : decode cX6_readWave 33 = .ok (.getfield 165, 3) := dk_180 0 165 (dk_at dksX6_readWave_1 9 rfl rfl)
theorem dX6_readWave_36 : decode cX6_readWave 36 = .ok (.iconst 3, 1) := dk_6 (dk_at dksX6_readWave_1 12 rfl rfl)
theorem dX6_readWave_37 : decode cX6_readWave 37 = .ok (.aload_n 0, 1) := dk_42 (dk_at dksX6_readWave_1 13 rfl rfl)
theorem dX6_readWave_38 : decode cX6_readWave 38 = .ok (.getfield 162, 3) := dk_180 0 162 (dk_at dksX6_readWave_1 14 rfl rfl)
theorem dX6_readWave_41 : decode cX6_readWave 41 = .ok (.imul, 1) := dk_104 (dk_at dksX6_readWave_1 17 rfl rfl)
theorem dX6_readWave_42 : decode cX6_readWave 42 = .ok (.aload_n 0, 1) := dk_42 (dk_at dksX6_readWave_1 18 rfl rfl)
theorem dX6_readWave_43 : decode cX6_readWave 43 = .ok (.getfield 56, 3) := dk_180 0 56 (dk_at dksX6_readWave_1 19 rfl rfl)
theorem dX6_readWave_46 : decode cX6_readWave 46 = .ok (.iastore, 1) := dk_79 (dk_at dksX6_readWave_1 22 rfl rfl)
theorem dX6_readWave_47 : decode cX6_readWave 47 = .ok (.aload_n 0, 1) := dk_42 (dk_at dksX6_readWave_1 23 rfl rfl)
theorem dX6_readWave_48 : decode cX6_readWave 48 = .ok (.iconst 1, 1) := dk_4 (dk_at dksX6_readWave_2 0 rfl rfl)
theorem dX6_readWave_49 : decode cX6_readWave 49 = .ok (.bipush 8, 2) := dk_16 8 (dk_at dksX6_readWave_2 1 rfl rfl)
theorem dX6_readWave_51 : decode cX6_readWave 51 = .ok (.invokevirtual 70, 3) := dk_182 0 70 (dk_at dksX6_readWave_2 3 rfl rfl)
theorem dX6_readWave_54 : decode cX6_readWave 54 = .ok (.ifCond .ne 5, 3) := dk_154 0 5 (dk_at dksX6_readWave_2 6 rfl rfl)
theorem dX6_readWave_57 : decode cX6_readWave 57 = .ok (.iconst 0, 1) := dk_3 (dk_at dksX6_readWave_2 9 rfl rfl)
theorem dX6_readWave_58 : decode cX6_readWave 58 = .ok (.ireturn, 1) := dk_172 (dk_at dksX6_readWave_2 10 rfl rfl)
theorem dX6_readWave_59 : decode cX6_readWave 59 = .ok (.aload_n 0, 1) := dk_42 (dk_at dksX6_readWave_2 11 rfl rfl)
theorem dX6_readWave_60 : decode cX6_readWave 60 = .ok (.getfield 165, 3) := dk_180 0 165 (dk_at dksX6_readWave_2 12 rfl rfl)
theorem dX6_readWave_63 : decode cX6_readWave 63 = .ok (.iconst 3, 1) := dk_6 (dk_at dksX6_readWave_2 15 rfl rfl)
theorem dX6_readWave_64 : decode cX6_readWave 64 = .ok (.aload_n 0, 1) := dk_42 (dk_at dksX6_readWave_2 16 rfl rfl)
theorem dX6_readWave_65 : decode cX6_readWave 65 = .ok (.getfield 162, 3) := dk_180 0 162 (dk_at dksX6_readWave_2 17 rfl rfl)
theorem dX6_readWave_68 : decode cX6_readWave 68 = .ok (.imul, 1) := dk_104 (dk_at dksX6_readWave_2 20 rfl rfl)
theorem dX6_readWave_69 : decode cX6_readWave 69 = .ok (.iconst 1, 1) := dk_4 (dk_at dksX6_readWave_2 21 rfl rfl)
theorem dX6_readWave_70 : decode cX6_readWave 70 = .ok (.iadd, 1) := dk_96 (dk_at dksX6_readWave_2 22 rfl rfl)
theorem dX6_readWave_71 : decode cX6_readWave 71 = .ok (.aload_n 0, 1) := dk_42 (dk_at dksX6_readWave_2 23 rfl rfl)
theorem dX6_readWave_72 : decode cX6_readWave 72 = .ok (.getfield 56, 3) := dk_180 0 56 (dk_at dksX6_readWave_3 0 rfl rfl)
theorem dX6_readWave_75 : decode cX6_readWave 75 = .ok (.iastore, 1) := dk_79 (dk_at dksX6_readWave_3 3 rfl rfl)
theorem dX6_readWave_76 : decode cX6_readWave 76 = .ok (.aload_n 0, 1) := dk_42 (dk_at dksX6_readWave_3 4 rfl rfl)
theorem dX6_readWave_77 : decode cX6_readWave 77 = .ok (.iconst 0, 1) := dk_3 (dk_at dksX6_readWave_3 5 rfl rfl)
theorem dX6_readWave_78 : decode cX6_readWave 78 = .ok (.bipush 99, 2) := dk_16 99 (dk_at dksX6_readWave_3 6 rfl rfl)
theorem dX6_readWave_80 : decode cX6_readWave 80 = .ok (.invokevirtual 70, 3) := dk_182 0 70 (dk_at dksX6_readWave_3 8 rfl rfl)
theorem dX6_readWave_83 : decode cX6_readWave 83 = .ok (.ifCond .ne 5, 3) := dk_154 0 5 (dk_at dksX6_readWave_3 11 rfl rfl)
theorem dX6_readWave_86 : decode cX6_readWave 86 = .ok (.iconst 0, 1) := dk_3 (dk_at dksX6_readWave_3 14 rfl rfl)
theorem dX6_readWave_87 : decode cX6_readWave 87 = .ok (.ireturn, 1) := dk_172 (dk_at dksX6_readWave_3 15 rfl rfl)
theorem dX6_readWave_88 : decode cX6_readWave 88 = .ok (.aload_n 0, 1) := dk_42 (dk_at dksX6_readWave_3 16 rfl rfl)
theorem dX6_readWave_89 : decode cX6_readWave 89 = .ok (.getfield 165, 3) := dk_180 0 165 (dk_at dksX6_readWave_3 17 rfl rfl)
theorem dX6_readWave_92 : decode cX6_readWave 92 = .ok (.iconst 3, 1) := dk_6 (dk_at dksX6_readWave_3 20 rfl rfl)
theorem dX6_readWave_93 : decode cX6_readWave 93 = .ok (.aload_n 0, 1) := dk_42 (dk_at dksX6_readWave_3 21 rfl rfl)
theorem dX6_readWave_94 : decode cX6_readWave 94 = .ok (.getfield 162, 3) := dk_180 0 162 (dk_at dksX6_readWave_4 0 rfl rfl)
theorem dX6_readWave_97 : decode cX6_readWave 97 = .ok (.imul, 1) := dk_104 (dk_at dksX6_readWave_4 3 rfl rfl)
theorem dX6_readWave_98 : decode cX6_readWave 98 = .ok (.iconst 2, 1) := dk_5 (dk_at dksX6_readWave_4 4 rfl rfl)
theorem dX6_readWave_99 : decode cX6_readWave 99 = .ok (.iadd, 1) := dk_96 (dk_at dksX6_readWave_4 5 rfl rfl)
theorem dX6_readWave_100 : decode cX6_readWave 100 = .ok (.aload_n 0, 1) := dk_42 (dk_at dksX6_readWave_4 6 rfl rfl)
theorem dX6_readWave_101 : decode cX6_readWave 101 = .ok (.getfield 56, 3) := dk_180 0 56 (dk_at dksX6_readWave_4 7 rfl rfl)
theorem dX6_readWave_104 : decode cX6_readWave 104 = .ok (.iastore, 1) := dk_79 (dk_at dksX6_readWave_4 10 rfl rfl)
theorem dX6_readWave_105 : decode cX6_readWave 105 = .ok (.aload_n 0, 1) := dk_42 (dk_at dksX6_readWave_4 11 rfl rfl)
theorem dX6_readWave_106 : decode cX6_readWave 106 = .ok (.dup, 1) := dk_89 (dk_at dksX6_readWave_4 12 rfl rfl)
theorem dX6_readWave_107 : decode cX6_readWave 107 = .ok (.getfield 162, 3) := dk_180 0 162 (dk_at dksX6_readWave_4 13 rfl rfl)
theorem dX6_readWave_110 : decode cX6_readWave 110 = .ok (.iconst 1, 1) := dk_4 (dk_at dksX6_readWave_4 16 rfl rfl)
theorem dX6_readWave_111 : decode cX6_readWave 111 = .ok (.iadd, 1) := dk_96 (dk_at dksX6_readWave_4 17 rfl rfl)
theorem dX6_readWave_112 : decode cX6_readWave 112 = .ok (.putfield 162, 3) := dk_181 0 162 (dk_at dksX6_readWave_4 18 rfl rfl)
theorem dX6_readWave_115 : decode cX6_readWave 115 = .ok (.iconst 1, 1) := dk_4 (dk_at dksX6_readWave_4 21 rfl rfl)
theorem dX6_readWave_116 : decode cX6_readWave 116 = .ok (.ireturn, 1) := dk_172 (dk_at dksX6_readWave_4 22 rfl rfl)
abbrev cX6_readSeaWord : ByteArray := prog_16_method_25_code
def yX6_readSeaWord : MethodName := ⟨RX6, "readSeaWord", "()Z"⟩
def dkwX6_readSeaWord_7 : List UInt8 := [4, 172]
abbrev dktX6_readSeaWord_7 : List UInt8 := dkwX6_readSeaWord_7 ++ []
def dkwX6_readSeaWord_6 : List UInt8 := [182, 0, 184, 172, 42, 3, 16, 9, 182, 0, 70, 154, 0, 5, 3, 172, 42, 42, 180, 0, 56, 181, 0, 191]
abbrev dktX6_readSeaWord_6 : List UInt8 := dkwX6_readSeaWord_6 ++ dktX6_readSeaWord_7
def dkwX6_readSeaWord_5 : List UInt8 := [180, 0, 181, 4, 16, 8, 182, 0, 184, 172, 27, 5, 160, 0, 15, 42, 42, 180, 0, 188, 3, 16, 99]
abbrev dktX6_readSeaWord_5 : List UInt8 := dkwX6_readSeaWord_5 ++ dktX6_readSeaWord_6
def dkwX6_readSeaWord_4 : List UInt8 := [181, 0, 101, 42, 182, 0, 63, 27, 154, 0, 8, 42, 182, 0, 179, 172, 27, 4, 160, 0, 15, 42, 42]
abbrev dktX6_readSeaWord_4 : List UInt8 := dkwX6_readSeaWord_4 ++ dktX6_readSeaWord_5
def dkwX6_readSeaWord_3 : List UInt8 := [27, 122, 4, 126, 4, 160, 0, 9, 42, 6, 182, 0, 49, 172, 42, 89, 180, 0, 101, 4, 27, 120, 128]
abbrev dktX6_readSeaWord_3 : List UInt8 := dkwX6_readSeaWord_3 ++ dktX6_readSeaWord_4
def dkwX6_readSeaWord_2 : List UInt8 := [153, 0, 7, 6, 167, 0, 4, 2, 60, 27, 2, 160, 0, 9, 42, 4, 182, 0, 49, 172, 42, 180, 0, 101]
abbrev dktX6_readSeaWord_2 : List UInt8 := dkwX6_readSeaWord_2 ++ dktX6_readSeaWord_3
def dkwX6_readSeaWord_1 : List UInt8 := [167, 0, 30, 42, 18, 175, 182, 0, 106, 153, 0, 7, 5, 167, 0, 17, 42, 18, 177, 182, 0, 106]
abbrev dktX6_readSeaWord_1 : List UInt8 := dkwX6_readSeaWord_1 ++ dktX6_readSeaWord_2
def dkwX6_readSeaWord_0 : List UInt8 := [42, 18, 171, 182, 0, 106, 153, 0, 7, 3, 167, 0, 43, 42, 18, 173, 182, 0, 106, 153, 0, 7, 4]
abbrev dktX6_readSeaWord_0 : List UInt8 := dkwX6_readSeaWord_0 ++ dktX6_readSeaWord_1
theorem dksX6_readSeaWord_0 : cX6_readSeaWord.data.toList.drop 0 = dktX6_readSeaWord_0 := by decide +kernel
theorem dksX6_readSeaWord_1 : cX6_readSeaWord.data.toList.drop 23 = dktX6_readSeaWord_1 := dk_seg dksX6_readSeaWord_0 23 rfl rfl
theorem dksX6_readSeaWord_2 : cX6_readSeaWord.data.toList.drop 45 = dktX6_readSeaWord_2 := dk_seg dksX6_readSeaWord_1 22 rfl rfl
theorem dksX6_readSeaWord_3 : cX6_readSeaWord.data.toList.drop 69 = dktX6_readSeaWord_3 := dk_seg dksX6_readSeaWord_2 24 rfl rfl
theorem dksX6_readSeaWord_4 : cX6_readSeaWord.data.toList.drop 92 = dktX6_readSeaWord_4 := dk_seg dksX6_readSeaWord_3 23 rfl rfl
theorem dksX6_readSeaWord_5 : cX6_readSeaWord.data.toList.drop 115 = dktX6_readSeaWord_5 := dk_seg dksX6_readSeaWord_4 23 rfl rfl
theorem dksX6_readSeaWord_6 : cX6_readSeaWord.data.toList.drop 138 = dktX6_readSeaWord_6 := dk_seg dksX6_readSeaWord_5 23 rfl rfl
theorem dksX6_readSeaWord_7 : cX6_readSeaWord.data.toList.drop 162 = dktX6_readSeaWord_7 := dk_seg dksX6_readSeaWord_6 24 rfl rfl
theorem dX6_readSeaWord_0 : decode cX6_readSeaWord 0 = .ok (.aload_n 0, 1) := dk_42 (dk_at dksX6_readSeaWord_0 0 rfl rfl)
theorem dX6_readSeaWord_1 : decode cX6_readSeaWord 1 = .ok (.ldc 171, 2) := dk_18 171 (dk_at dksX6_readSeaWord_0 1 rfl rfl)
theorem dX6_readSeaWord_3 : decode cX6_readSeaWord 3 = .ok (.invokevirtual 106, 3) := dk_182 0 106 (dk_at dksX6_readSeaWord_0 3 rfl rfl)
theorem dX6_readSeaWord_6 : decode cX6_readSeaWord 6 = .ok (.ifCond .eq 7, 3) := dk_153 0 7 (dk_at dksX6_readSeaWord_0 6 rfl rfl)
theorem dX6_readSeaWord_9 : decode cX6_readSeaWord 9 = .ok (.iconst 0, 1) := dk_3 (dk_at dksX6_readSeaWord_0 9 rfl rfl)
theorem dX6_readSeaWord_10 : decode cX6_readSeaWord 10 = .ok (.goto 43, 3) := dk_167 0 43 (dk_at dksX6_readSeaWord_0 10 rfl rfl)
theorem dX6_readSeaWord_13 : decode cX6_readSeaWord 13 = .ok (.aload_n 0, 1) := dk_42 (dk_at dksX6_readSeaWord_0 13 rfl rfl)
theorem dX6_readSeaWord_14 : decode cX6_readSeaWord 14 = .ok (.ldc 173, 2) := dk_18 173 (dk_at dksX6_readSeaWord_0 14 rfl rfl)
theorem dX6_readSeaWord_16 : decode cX6_readSeaWord 16 = .ok (.invokevirtual 106, 3) := dk_182 0 106 (dk_at dksX6_readSeaWord_0 16 rfl rfl)
theorem dX6_readSeaWord_19 : decode cX6_readSeaWord 19 = .ok (.ifCond .eq 7, 3) := dk_153 0 7 (dk_at dksX6_readSeaWord_0 19 rfl rfl)
theorem dX6_readSeaWord_22 : decode cX6_readSeaWord 22 = .ok (.iconst 1, 1) := dk_4 (dk_at dksX6_readSeaWord_0 22 rfl rfl)
theorem dX6_readSeaWord_23 : decode cX6_readSeaWord 23 = .ok (.goto 30, 3) := dk_167 0 30 (dk_at dksX6_readSeaWord_1 0 rfl rfl)
theorem dX6_readSeaWord_26 : decode cX6_readSeaWord 26 = .ok (.aload_n 0, 1) := dk_42 (dk_at dksX6_readSeaWord_1 3 rfl rfl)
theorem dX6_readSeaWord_27 : decode cX6_readSeaWord 27 = .ok (.ldc 175, 2) := dk_18 175 (dk_at dksX6_readSeaWord_1 4 rfl rfl)
theorem dX6_readSeaWord_29 : decode cX6_readSeaWord 29 = .ok (.invokevirtual 106, 3) := dk_182 0 106 (dk_at dksX6_readSeaWord_1 6 rfl rfl)
theorem dX6_readSeaWord_32 : decode cX6_readSeaWord 32 = .ok (.ifCond .eq 7, 3) := dk_153 0 7 (dk_at dksX6_readSeaWord_1 9 rfl rfl)
theorem dX6_readSeaWord_35 : decode cX6_readSeaWord 35 = .ok (.iconst 2, 1) := dk_5 (dk_at dksX6_readSeaWord_1 12 rfl rfl)
theorem dX6_readSeaWord_36 : decode cX6_readSeaWord 36 = .ok (.goto 17, 3) := dk_167 0 17 (dk_at dksX6_readSeaWord_1 13 rfl rfl)
theorem dX6_readSeaWord_39 : decode cX6_readSeaWord 39 = .ok (.aload_n 0, 1) := dk_42 (dk_at dksX6_readSeaWord_1 16 rfl rfl)
theorem dX6_readSeaWord_40 : decode cX6_readSeaWord 40 = .ok (.ldc 177, 2) := dk_18 177 (dk_at dksX6_readSeaWord_1 17 rfl rfl)
theorem dX6_readSeaWord_42 : decode cX6_readSeaWord 42 = .ok (.invokevirtual 106, 3) := dk_182 0 106 (dk_at dksX6_readSeaWord_1 19 rfl rfl)
theorem dX6_readSeaWord_45 : decode cX6_readSeaWord 45 = .ok (.ifCond .eq 7, 3) := dk_153 0 7 (dk_at dksX6_readSeaWord_2 0 rfl rfl)
theorem dX6_readSeaWord_48 : decode cX6_readSeaWord 48 = .ok (.iconst 3, 1) := dk_6 (dk_at dksX6_readSeaWord_2 3 rfl rfl)
theorem dX6_readSeaWord_49 : decode cX6_readSeaWord 49 = .ok (.goto 4, 3) := dk_167 0 4 (dk_at dksX6_readSeaWord_2 4 rfl rfl)
theorem dX6_readSeaWord_52 : decode cX6_readSeaWord 52 = .ok (.iconst (-1), 1) := dk_2 (dk_at dksX6_readSeaWord_2 7 rfl rfl)
theorem dX6_readSeaWord_53 : decode cX6_readSeaWord 53 = .ok (.istore_n 1, 1) := dk_60 (dk_at dksX6_readSeaWord_2 8 rfl rfl)
theorem dX6_readSeaWord_54 : decode cX6_readSeaWord 54 = .ok (.iload_n 1, 1) := dk_27 (dk_at dksX6_readSeaWord_2 9 rfl rfl)
theorem dX6_readSeaWord_55 : decode cX6_readSeaWord 55 = .ok (.iconst (-1), 1) := dk_2 (dk_at dksX6_readSeaWord_2 10 rfl rfl)
theorem dX6_readSeaWord_56 : decode cX6_readSeaWord 56 = .ok (.if_icmp .ne 9, 3) := dk_160 0 9 (dk_at dksX6_readSeaWord_2 11 rfl rfl)
theorem dX6_readSeaWord_59 : decode cX6_readSeaWord 59 = .ok (.aload_n 0, 1) := dk_42 (dk_at dksX6_readSeaWord_2 14 rfl rfl)
theorem dX6_readSeaWord_60 : decode cX6_readSeaWord 60 = .ok (.iconst 1, 1) := dk_4 (dk_at dksX6_readSeaWord_2 15 rfl rfl)
theorem dX6_readSeaWord_61 : decode cX6_readSeaWord 61 = .ok (.invokevirtual 49, 3) := dk_182 0 49 (dk_at dksX6_readSeaWord_2 16 rfl rfl)
theorem dX6_readSeaWord_64 : decode cX6_readSeaWord 64 = .ok (.ireturn, 1) := dk_172 (dk_at dksX6_readSeaWord_2 19 rfl rfl)
theorem dX6_readSeaWord_65 : decode cX6_readSeaWord 65 = .ok (.aload_n 0, 1) := dk_42 (dk_at dksX6_readSeaWord_2 20 rfl rfl)
theorem dX6_readSeaWord_66 : decode cX6_readSeaWord 66 = .ok (.getfield 101, 3) := dk_180 0 101 (dk_at dksX6_readSeaWord_2 21 rfl rfl)
theorem dX6_readSeaWord_69 : decode cX6_readSeaWord 69 = .ok (.iload_n 1, 1) := dk_27 (dk_at dksX6_readSeaWord_3 0 rfl rfl)
theorem dX6_readSeaWord_70 : decode cX6_readSeaWord 70 = .ok (.ishr, 1) := dk_122 (dk_at dksX6_readSeaWord_3 1 rfl rfl)
theorem dX6_readSeaWord_71 : decode cX6_readSeaWord 71 = .ok (.iconst 1, 1) := dk_4 (dk_at dksX6_readSeaWord_3 2 rfl rfl)
theorem dX6_readSeaWord_72 : decode cX6_readSeaWord 72 = .ok (.iand, 1) := dk_126 (dk_at dksX6_readSeaWord_3 3 rfl rfl)
theorem dX6_readSeaWord_73 : decode cX6_readSeaWord 73 = .ok (.iconst 1, 1) := dk_4 (dk_at dksX6_readSeaWord_3 4 rfl rfl)
theorem dX6_readSeaWord_74 : decode cX6_readSeaWord 74 = .ok (.if_icmp .ne 9, 3) := dk_160 0 9 (dk_at dksX6_readSeaWord_3 5 rfl rfl)
theorem dX6_readSeaWord_77 : decode cX6_readSeaWord 77 = .ok (.aload_n 0, 1) := dk_42 (dk_at dksX6_readSeaWord_3 8 rfl rfl)
theorem dX6_readSeaWord_78 : decode cX6_readSeaWord 78 = .ok (.iconst 3, 1) := dk_6 (dk_at dksX6_readSeaWord_3 9 rfl rfl)
theorem dX6_readSeaWord_79 : decode cX6_readSeaWord 79 = .ok (.invokevirtual 49, 3) := dk_182 0 49 (dk_at dksX6_readSeaWord_3 10 rfl rfl)
theorem dX6_readSeaWord_82 : decode cX6_readSeaWord 82 = .ok (.ireturn, 1) := dk_172 (dk_at dksX6_readSeaWord_3 13 rfl rfl)
theorem dX6_readSeaWord_83 : decode cX6_readSeaWord 83 = .ok (.aload_n 0, 1) := dk_42 (dk_at dksX6_readSeaWord_3 14 rfl rfl)
theorem dX6_readSeaWord_84 : decode cX6_readSeaWord 84 = .ok (.dup, 1) := dk_89 (dk_at dksX6_readSeaWord_3 15 rfl rfl)
theorem dX6_readSeaWord_85 : decode cX6_readSeaWord 85 = .ok (.getfield 101, 3) := dk_180 0 101 (dk_at dksX6_readSeaWord_3 16 rfl rfl)
theorem dX6_readSeaWord_88 : decode cX6_readSeaWord 88 = .ok (.iconst 1, 1) := dk_4 (dk_at dksX6_readSeaWord_3 19 rfl rfl)
theorem dX6_readSeaWord_89 : decode cX6_readSeaWord 89 = .ok (.iload_n 1, 1) := dk_27 (dk_at dksX6_readSeaWord_3 20 rfl rfl)
theorem dX6_readSeaWord_90 : decode cX6_readSeaWord 90 = .ok (.ishl, 1) := dk_120 (dk_at dksX6_readSeaWord_3 21 rfl rfl)
theorem dX6_readSeaWord_91 : decode cX6_readSeaWord 91 = .ok (.ior, 1) := dk_128 (dk_at dksX6_readSeaWord_3 22 rfl rfl)
theorem dX6_readSeaWord_92 : decode cX6_readSeaWord 92 = .ok (.putfield 101, 3) := dk_181 0 101 (dk_at dksX6_readSeaWord_4 0 rfl rfl)
theorem dX6_readSeaWord_95 : decode cX6_readSeaWord 95 = .ok (.aload_n 0, 1) := dk_42 (dk_at dksX6_readSeaWord_4 3 rfl rfl)
theorem dX6_readSeaWord_96 : decode cX6_readSeaWord 96 = .ok (.invokevirtual 63, 3) := dk_182 0 63 (dk_at dksX6_readSeaWord_4 4 rfl rfl)
theorem dX6_readSeaWord_99 : decode cX6_readSeaWord 99 = .ok (.iload_n 1, 1) := dk_27 (dk_at dksX6_readSeaWord_4 7 rfl rfl)
theorem dX6_readSeaWord_100 : decode cX6_readSeaWord 100 = .ok (.ifCond .ne 8, 3) := dk_154 0 8 (dk_at dksX6_readSeaWord_4 8 rfl rfl)
theorem dX6_readSeaWord_103 : decode cX6_readSeaWord 103 = .ok (.aload_n 0, 1) := dk_42 (dk_at dksX6_readSeaWord_4 11 rfl rfl)
theorem dX6_readSeaWord_104 : decode cX6_readSeaWord 104 = .ok (.invokevirtual 179, 3) := dk_182 0 179 (dk_at dksX6_readSeaWord_4 12 rfl rfl)
theorem dX6_readSeaWord_107 : decode cX6_readSeaWord 107 = .ok (.ireturn, 1) := dk_172 (dk_at dksX6_readSeaWord_4 15 rfl rfl)
theorem dX6_readSeaWord_108 : decode cX6_readSeaWord 108 = .ok (.iload_n 1, 1) := dk_27 (dk_at dksX6_readSeaWord_4 16 rfl rfl)
theorem dX6_readSeaWord_109 : decode cX6_readSeaWord 109 = .ok (.iconst 1, 1) := dk_4 (dk_at dksX6_readSeaWord_4 17 rfl rfl)
theorem dX6_readSeaWord_110 : decode cX6_readSeaWord 110 = .ok (.if_icmp .ne 15, 3) := dk_160 0 15 (dk_at dksX6_readSeaWord_4 18 rfl rfl)
theorem dX6_readSeaWord_113 : decode cX6_readSeaWord 113 = .ok (.aload_n 0, 1) := dk_42 (dk_at dksX6_readSeaWord_4 21 rfl rfl)
theorem dX6_readSeaWord_114 : decode cX6_readSeaWord 114 = .ok (.aload_n 0, 1) := dk_42 (dk_at dksX6_readSeaWord_4 22 rfl rfl)
theorem dX6_readSeaWord_115 : decode cX6_readSeaWord 115 = .ok (.getfield 181, 3) := dk_180 0 181 (dk_at dksX6_readSeaWord_5 0 rfl rfl)
theorem dX6_readSeaWord_118 : decode cX6_readSeaWord 118 = .ok (.iconst 1, 1) := dk_4 (dk_at dksX6_readSeaWord_5 3 rfl rfl)
theorem dX6_readSeaWord_119 : decode cX6_readSeaWord 119 = .ok (.bipush 8, 2) := dk_16 8 (dk_at dksX6_readSeaWord_5 4 rfl rfl)
theorem dX6_readSeaWord_121 : decode cX6_readSeaWord 121 = .ok (.invokevirtual 184, 3) := dk_182 0 184 (dk_at dksX6_readSeaWord_5 6 rfl rfl)
theorem dX6_readSeaWord_124 : decode cX6_readSeaWord 124 = .ok (.ireturn, 1) := dk_172 (dk_at dksX6_readSeaWord_5 9 rfl rfl)
theorem dX6_readSeaWord_125 : decode cX6_readSeaWord 125 = .ok (.iload_n 1, 1) := dk_27 (dk_at dksX6_readSeaWord_5 10 rfl rfl)
theorem dX6_readSeaWord_126 : decode cX6_readSeaWord 126 = .ok (.iconst 2, 1) := dk_5 (dk_at dksX6_readSeaWord_5 11 rfl rfl)
theorem dX6_readSeaWord_127 : decode cX6_readSeaWord 127 = .ok (.if_icmp .ne 15, 3) := dk_160 0 15 (dk_at dksX6_readSeaWord_5 12 rfl rfl)
theorem dX6_readSeaWord_130 : decode cX6_readSeaWord 130 = .ok (.aload_n 0, 1) := dk_42 (dk_at dksX6_readSeaWord_5 15 rfl rfl)
theorem dX6_readSeaWord_131 : decode cX6_readSeaWord 131 = .ok (.aload_n 0, 1) := dk_42 (dk_at dksX6_readSeaWord_5 16 rfl rfl)
theorem dX6_readSeaWord_132 : decode cX6_readSeaWord 132 = .ok (.getfield 188, 3) := dk_180 0 188 (dk_at dksX6_readSeaWord_5 17 rfl rfl)
theorem dX6_readSeaWord_135 : decode cX6_readSeaWord 135 = .ok (.iconst 0, 1) := dk_3 (dk_at dksX6_readSeaWord_5 20 rfl rfl)
theorem dX6_readSeaWord_136 : decode cX6_readSeaWord 136 = .ok (.bipush 99, 2) := dk_16 99 (dk_at dksX6_readSeaWord_5 21 rfl rfl)
theorem dX6_readSeaWord_138 : decode cX6_readSeaWord 138 = .ok (.invokevirtual 184, 3) := dk_182 0 184 (dk_at dksX6_readSeaWord_6 0 rfl rfl)
theorem dX6_readSeaWord_141 : decode cX6_readSeaWord 141 = .ok (.ireturn, 1) := dk_172 (dk_at dksX6_readSeaWord_6 3 rfl rfl)
theorem dX6_readSeaWord_142 : decode cX6_readSeaWord 142 = .ok (.aload_n 0, 1) := dk_42 (dk_at dksX6_readSeaWord_6 4 rfl rfl)
theorem dX6_readSeaWord_143 : decode cX6_readSeaWord 143 = .ok (.iconst 0, 1) := dk_3 (dk_at dksX6_readSeaWord_6 5 rfl rfl)
theorem dX6_readSeaWord_144 : decode cX6_readSeaWord 144 = .ok (.bipush 9, 2) := dk_16 9 (dk_at dksX6_readSeaWord_6 6 rfl rfl)
theorem dX6_readSeaWord_146 : decode cX6_readSeaWord 146 = .ok (.invokevirtual 70, 3) := dk_182 0 70 (dk_at dksX6_readSeaWord_6 8 rfl rfl)
theorem dX6_readSeaWord_149 : decode cX6_readSeaWord 149 = .ok (.ifCond .ne 5, 3) := dk_154 0 5 (dk_at dksX6_readSeaWord_6 11 rfl rfl)
theorem dX6_readSeaWord_152 : decode cX6_readSeaWord 152 = .ok (.iconst 0, 1) := dk_3 (dk_at dksX6_readSeaWord_6 14 rfl rfl)
theorem dX6_readSeaWord_153 : decode cX6_readSeaWord 153 = .ok (.ireturn, 1) := dk_172 (dk_at dksX6_readSeaWord_6 15 rfl rfl)
theorem dX6_readSeaWord_154 : decode cX6_readSeaWord 154 = .ok (.aload_n 0, 1) := dk_42 (dk_at dksX6_readSeaWord_6 16 rfl rfl)
theorem dX6_readSeaWord_155 : decode cX6_readSeaWord 155 = .ok (.aload_n 0, 1) := dk_42 (dk_at dksX6_readSeaWord_6 17 rfl rfl)
theorem dX6_readSeaWord_156 : decode cX6_readSeaWord 156 = .ok (.getfield 56, 3) := dk_180 0 56 (dk_at dksX6_readSeaWord_6 18 rfl rfl)
theorem dX6_readSeaWord_159 : decode cX6_readSeaWord 159 = .ok (.putfield 191, 3) := dk_181 0 191 (dk_at dksX6_readSeaWord_6 21 rfl rfl)
theorem dX6_readSeaWord_162 : decode cX6_readSeaWord 162 = .ok (.iconst 1, 1) := dk_4 (dk_at dksX6_readSeaWord_7 0 rfl rfl)
theorem dX6_readSeaWord_163 : decode cX6_readSeaWord 163 = .ok (.ireturn, 1) := dk_172 (dk_at dksX6_readSeaWord_7 1 rfl rfl)
abbrev cX6_readTide : ByteArray := prog_16_method_23_code
def yX6_readTide : MethodName := ⟨RX6, "readTide", "()Z"⟩
def dkwX6_readTide_3 : List UInt8 := [3, 16, 100, 182, 0, 70, 154, 0, 5, 3, 172, 42, 180, 0, 168, 6, 42, 180, 0, 56, 79, 4, 172]
abbrev dktX6_readTide_3 : List UInt8 := dkwX6_readTide_3 ++ []
def dkwX6_readTide_2 : List UInt8 := [79, 42, 4, 16, 60, 182, 0, 70, 154, 0, 5, 3, 172, 42, 180, 0, 168, 5, 42, 180, 0, 56, 79, 42]
abbrev dktX6_readTide_2 : List UInt8 := dkwX6_readTide_2 ++ dktX6_readTide_3
def dkwX6_readTide_1 : List UInt8 := [42, 180, 0, 56, 17, 1, 103, 182, 0, 70, 154, 0, 5, 3, 172, 42, 180, 0, 168, 4, 42, 180, 0, 56]
abbrev dktX6_readTide_1 : List UInt8 := dkwX6_readTide_1 ++ dktX6_readTide_2
def dkwX6_readTide_0 : List UInt8 := [42, 3, 17, 1, 103, 182, 0, 70, 154, 0, 5, 3, 172, 42, 180, 0, 168, 3, 42, 180, 0, 56, 79, 42]
abbrev dktX6_readTide_0 : List UInt8 := dkwX6_readTide_0 ++ dktX6_readTide_1
theorem dksX6_readTide_0 : cX6_readTide.data.toList.drop 0 = dktX6_readTide_0 := by decide +kernel
theorem dksX6_readTide_1 : cX6_readTide.data.toList.drop 24 = dktX6_readTide_1 := dk_seg dksX6_readTide_0 24 rfl rfl
theorem dksX6_readTide_2 : cX6_readTide.data.toList.drop 48 = dktX6_readTide_2 := dk_seg dksX6_readTide_1 24 rfl rfl
theorem dksX6_readTide_3 : cX6_readTide.data.toList.drop 72 = dktX6_readTide_3 := dk_seg dksX6_readTide_2 24 rfl rfl
theorem dX6_readTide_0 : decode cX6_readTide 0 = .ok (.aload_n 0, 1) := dk_42 (dk_at dksX6_readTide_0 0 rfl rfl)
theorem dX6_readTide_1 : decode cX6_readTide 1 = .ok (.iconst 0, 1) := dk_3 (dk_at dksX6_readTide_0 1 rfl rfl)
theorem dX6_readTide_2 : decode cX6_readTide 2 = .ok (.sipush 359, 3) := dk_17 1 103 (dk_at dksX6_readTide_0 2 rfl rfl)
theorem dX6_readTide_5 : decode cX6_readTide 5 = .ok (.invokevirtual 70, 3) := dk_182 0 70 (dk_at dksX6_readTide_0 5 rfl rfl)
theorem dX6_readTide_8 : decode cX6_readTide 8 = .ok (.ifCond .ne 5, 3) := dk_154 0 5 (dk_at dksX6_readTide_0 8 rfl rfl)
theorem dX6_readTide_11 : decode cX6_readTide 11 = .ok (.iconst 0, 1) := dk_3 (dk_at dksX6_readTide_0 11 rfl rfl)
theorem dX6_readTide_12 : decode cX6_readTide 12 = .ok (.ireturn, 1) := dk_172 (dk_at dksX6_readTide_0 12 rfl rfl)
theorem dX6_readTide_13 : decode cX6_readTide 13 = .ok (.aload_n 0, 1) := dk_42 (dk_at dksX6_readTide_0 13 rfl rfl)
theorem dX6_readTide_14 : decode cX6_readTide 14 = .ok (.getfield 168, 3) := dk_180 0 168 (dk_at dksX6_readTide_0 14 rfl rfl)
theorem dX6_readTide_17 : decode cX6_readTide 17 = .ok (.iconst 0, 1) := dk_3 (dk_at dksX6_readTide_0 17 rfl rfl)
theorem dX6_readTide_18 : decode cX6_readTide 18 = .ok (.aload_n 0, 1) := dk_42 (dk_at dksX6_readTide_0 18 rfl rfl)
theorem dX6_readTide_19 : decode cX6_readTide 19 = .ok (.getfield 56, 3) := dk_180 0 56 (dk_at dksX6_readTide_0 19 rfl rfl)
theorem dX6_readTide_22 : decode cX6_readTide 22 = .ok (.iastore, 1) := dk_79 (dk_at dksX6_readTide_0 22 rfl rfl)
theorem dX6_readTide_23 : decode cX6_readTide 23 = .ok (.aload_n 0, 1) := dk_42 (dk_at dksX6_readTide_0 23 rfl rfl)
theorem dX6_readTide_24 : decode cX6_readTide 24 = .ok (.aload_n 0, 1) := dk_42 (dk_at dksX6_readTide_1 0 rfl rfl)
theorem dX6_readTide_25 : decode cX6_readTide 25 = .ok (.getfield 56, 3) := dk_180 0 56 (dk_at dksX6_readTide_1 1 rfl rfl)
theorem dX6_readTide_28 : decode cX6_readTide 28 = .ok (.sipush 359, 3) := dk_17 1 103 (dk_at dksX6_readTide_1 4 rfl rfl)
theorem dX6_readTide_31 : decode cX6_readTide 31 = .ok (.invokevirtual 70, 3) := dk_182 0 70 (dk_at dksX6_readTide_1 7 rfl rfl)
theorem dX6_readTide_34 : decode cX6_readTide 34 = .ok (.ifCond .ne 5, 3) := dk_154 0 5 (dk_at dksX6_readTide_1 10 rfl rfl)
theorem dX6_readTide_37 : decode cX6_readTide 37 = .ok (.iconst 0, 1) := dk_3 (dk_at dksX6_readTide_1 13 rfl rfl)
theorem dX6_readTide_38 : decode cX6_readTide 38 = .ok (.ireturn, 1) := dk_172 (dk_at dksX6_readTide_1 14 rfl rfl)
theorem dX6_readTide_39 : decode cX6_readTide 39 = .ok (.aload_n 0, 1) := dk_42 (dk_at dksX6_readTide_1 15 rfl rfl)
theorem dX6_readTide_40 : decode cX6_readTide 40 = .ok (.getfield 168, 3) := dk_180 0 168 (dk_at dksX6_readTide_1 16 rfl rfl)
theorem dX6_readTide_43 : decode cX6_readTide 43 = .ok (.iconst 1, 1) := dk_4 (dk_at dksX6_readTide_1 19 rfl rfl)
theorem dX6_readTide_44 : decode cX6_readTide 44 = .ok (.aload_n 0, 1) := dk_42 (dk_at dksX6_readTide_1 20 rfl rfl)
theorem dX6_readTide_45 : decode cX6_readTide 45 = .ok (.getfield 56, 3) := dk_180 0 56 (dk_at dksX6_readTide_1 21 rfl rfl)
theorem dX6_readTide_48 : decode cX6_readTide 48 = .ok (.iastore, 1) := dk_79 (dk_at dksX6_readTide_2 0 rfl rfl)
theorem dX6_readTide_49 : decode cX6_readTide 49 = .ok (.aload_n 0, 1) := dk_42 (dk_at dksX6_readTide_2 1 rfl rfl)
theorem dX6_readTide_50 : decode cX6_readTide 50 = .ok (.iconst 1, 1) := dk_4 (dk_at dksX6_readTide_2 2 rfl rfl)
theorem dX6_readTide_51 : decode cX6_readTide 51 = .ok (.bipush 60, 2) := dk_16 60 (dk_at dksX6_readTide_2 3 rfl rfl)
theorem dX6_readTide_53 : decode cX6_readTide 53 = .ok (.invokevirtual 70, 3) := dk_182 0 70 (dk_at dksX6_readTide_2 5 rfl rfl)
theorem dX6_readTide_56 : decode cX6_readTide 56 = .ok (.ifCond .ne 5, 3) := dk_154 0 5 (dk_at dksX6_readTide_2 8 rfl rfl)
theorem dX6_readTide_59 : decode cX6_readTide 59 = .ok (.iconst 0, 1) := dk_3 (dk_at dksX6_readTide_2 11 rfl rfl)
theorem dX6_readTide_60 : decode cX6_readTide 60 = .ok (.ireturn, 1) := dk_172 (dk_at dksX6_readTide_2 12 rfl rfl)
theorem dX6_readTide_61 : decode cX6_readTide 61 = .ok (.aload_n 0, 1) := dk_42 (dk_at dksX6_readTide_2 13 rfl rfl)
theorem dX6_readTide_62 : decode cX6_readTide 62 = .ok (.getfield 168, 3) := dk_180 0 168 (dk_at dksX6_readTide_2 14 rfl rfl)
theorem dX6_readTide_65 : decode cX6_readTide 65 = .ok (.iconst 2, 1) := dk_5 (dk_at dksX6_readTide_2 17 rfl rfl)
theorem dX6_readTide_66 : decode cX6_readTide 66 = .ok (.aload_n 0, 1) := dk_42 (dk_at dksX6_readTide_2 18 rfl rfl)
theorem dX6_readTide_67 : decode cX6_readTide 67 = .ok (.getfield 56, 3) := dk_180 0 56 (dk_at dksX6_readTide_2 19 rfl rfl)
theorem dX6_readTide_70 : decode cX6_readTide 70 = .ok (.iastore, 1) := dk_79 (dk_at dksX6_readTide_2 22 rfl rfl)
theorem dX6_readTide_71 : decode cX6_readTide 71 = .ok (.aload_n 0, 1) := dk_42 (dk_at dksX6_readTide_2 23 rfl rfl)
theorem dX6_readTide_72 : decode cX6_readTide 72 = .ok (.iconst 0, 1) := dk_3 (dk_at dksX6_readTide_3 0 rfl rfl)
theorem dX6_readTide_73 : decode cX6_readTide 73 = .ok (.bipush 100, 2) := dk_16 100 (dk_at dksX6_readTide_3 1 rfl rfl)
theorem dX6_readTide_75 : decode cX6_readTide 75 = .ok (.invokevirtual 70, 3) := dk_182 0 70 (dk_at dksX6_readTide_3 3 rfl rfl)
theorem dX6_readTide_78 : decode cX6_readTide 78 = .ok (.ifCond .ne 5, 3) := dk_154 0 5 (dk_at dksX6_readTide_3 6 rfl rfl)
theorem dX6_readTide_81 : decode cX6_readTide 81 = .ok (.iconst 0, 1) := dk_3 (dk_at dksX6_readTide_3 9 rfl rfl)
theorem dX6_readTide_82 : decode cX6_readTide 82 = .ok (.ireturn, 1) := dk_172 (dk_at dksX6_readTide_3 10 rfl rfl)
theorem dX6_readTide_83 : decode cX6_readTide 83 = .ok (.aload_n 0, 1) := dk_42 (dk_at dksX6_readTide_3 11 rfl rfl)
theorem dX6_readTide_84 : decode cX6_readTide 84 = .ok (.getfield 168, 3) := dk_180 0 168 (dk_at dksX6_readTide_3 12 rfl rfl)
theorem dX6_readTide_87 : decode cX6_readTide 87 = .ok (.iconst 3, 1) := dk_6 (dk_at dksX6_readTide_3 15 rfl rfl)
theorem dX6_readTide_88 : decode cX6_readTide 88 = .ok (.aload_n 0, 1) := dk_42 (dk_at dksX6_readTide_3 16 rfl rfl)
theorem dX6_readTide_89 : decode cX6_readTide 89 = .ok (.getfield 56, 3) := dk_180 0 56 (dk_at dksX6_readTide_3 17 rfl rfl)
theorem dX6_readTide_92 : decode cX6_readTide 92 = .ok (.iastore, 1) := dk_79 (dk_at dksX6_readTide_3 20 rfl rfl)
theorem dX6_readTide_93 : decode cX6_readTide 93 = .ok (.iconst 1, 1) := dk_4 (dk_at dksX6_readTide_3 21 rfl rfl)
theorem dX6_readTide_94 : decode cX6_readTide 94 = .ok (.ireturn, 1) := dk_172 (dk_at dksX6_readTide_3 22 rfl rfl)
abbrev cX6_readTwo : ByteArray := prog_16_method_24_code
def yX6_readTwo : MethodName := ⟨RX6, "readTwo", "([III)Z"⟩
def dkwX6_readTwo_1 : List UInt8 := [182, 0, 70, 154, 0, 5, 3, 172, 43, 4, 42, 180, 0, 56, 79, 4, 172]
abbrev dktX6_readTwo_1 : List UInt8 := dkwX6_readTwo_1 ++ []
def dkwX6_readTwo_0 : List UInt8 := [42, 28, 29, 182, 0, 70, 154, 0, 5, 3, 172, 43, 3, 42, 180, 0, 56, 79, 42, 42, 180, 0, 56, 29]
abbrev dktX6_readTwo_0 : List UInt8 := dkwX6_readTwo_0 ++ dktX6_readTwo_1
theorem dksX6_readTwo_0 : cX6_readTwo.data.toList.drop 0 = dktX6_readTwo_0 := by decide +kernel
theorem dksX6_readTwo_1 : cX6_readTwo.data.toList.drop 24 = dktX6_readTwo_1 := dk_seg dksX6_readTwo_0 24 rfl rfl
theorem dX6_readTwo_0 : decode cX6_readTwo 0 = .ok (.aload_n 0, 1) := dk_42 (dk_at dksX6_readTwo_0 0 rfl rfl)
theorem dX6_readTwo_1 : decode cX6_readTwo 1 = .ok (.iload_n 2, 1) := dk_28 (dk_at dksX6_readTwo_0 1 rfl rfl)
theorem dX6_readTwo_2 : decode cX6_readTwo 2 = .ok (.iload_n 3, 1) := dk_29 (dk_at dksX6_readTwo_0 2 rfl rfl)
theorem dX6_readTwo_3 : decode cX6_readTwo 3 = .ok (.invokevirtual 70, 3) := dk_182 0 70 (dk_at dksX6_readTwo_0 3 rfl rfl)
theorem dX6_readTwo_6 : decode cX6_readTwo 6 = .ok (.ifCond .ne 5, 3) := dk_154 0 5 (dk_at dksX6_readTwo_0 6 rfl rfl)
theorem dX6_readTwo_9 : decode cX6_readTwo 9 = .ok (.iconst 0, 1) := dk_3 (dk_at dksX6_readTwo_0 9 rfl rfl)
theorem dX6_readTwo_10 : decode cX6_readTwo 10 = .ok (.ireturn, 1) := dk_172 (dk_at dksX6_readTwo_0 10 rfl rfl)
theorem dX6_readTwo_11 : decode cX6_readTwo 11 = .ok (.aload_n 1, 1) := dk_43 (dk_at dksX6_readTwo_0 11 rfl rfl)
theorem dX6_readTwo_12 : decode cX6_readTwo 12 = .ok (.iconst 0, 1) := dk_3 (dk_at dksX6_readTwo_0 12 rfl rfl)
theorem dX6_readTwo_13 : decode cX6_readTwo 13 = .ok (.aload_n 0, 1) := dk_42 (dk_at dksX6_readTwo_0 13 rfl rfl)
theorem dX6_readTwo_14 : decode cX6_readTwo 14 = .ok (.getfield 56, 3) := dk_180 0 56 (dk_at dksX6_readTwo_0 14 rfl rfl)
theorem dX6_readTwo_17 : decode cX6_readTwo 17 = .ok (.iastore, 1) := dk_79 (dk_at dksX6_readTwo_0 17 rfl rfl)
theorem dX6_readTwo_18 : decode cX6_readTwo 18 = .ok (.aload_n 0, 1) := dk_42 (dk_at dksX6_readTwo_0 18 rfl rfl)
theorem dX6_readTwo_19 : decode cX6_readTwo 19 = .ok (.aload_n 0, 1) := dk_42 (dk_at dksX6_readTwo_0 19 rfl rfl)
theorem dX6_readTwo_20 : decode cX6_readTwo 20 = .ok (.getfield 56, 3) := dk_180 0 56 (dk_at dksX6_readTwo_0 20 rfl rfl)
theorem dX6_readTwo_23 : decode cX6_readTwo 23 = .ok (.iload_n 3, 1) := dk_29 (dk_at dksX6_readTwo_0 23 rfl rfl)
theorem dX6_readTwo_24 : decode cX6_readTwo 24 = .ok (.invokevirtual 70, 3) := dk_182 0 70 (dk_at dksX6_readTwo_1 0 rfl rfl)
theorem dX6_readTwo_27 : decode cX6_readTwo 27 = .ok (.ifCond .ne 5, 3) := dk_154 0 5 (dk_at dksX6_readTwo_1 3 rfl rfl)
theorem dX6_readTwo_30 : decode cX6_readTwo 30 = .ok (.iconst 0, 1) := dk_3 (dk_at dksX6_readTwo_1 6 rfl rfl)
theorem dX6_readTwo_31 : decode cX6_readTwo 31 = .ok (.ireturn, 1) := dk_172 (dk_at dksX6_readTwo_1 7 rfl rfl)
theorem dX6_readTwo_32 : decode cX6_readTwo 32 = .ok (.aload_n 1, 1) := dk_43 (dk_at dksX6_readTwo_1 8 rfl rfl)
theorem dX6_readTwo_33 : decode cX6_readTwo 33 = .ok (.iconst 1, 1) := dk_4 (dk_at dksX6_readTwo_1 9 rfl rfl)
theorem dX6_readTwo_34 : decode cX6_readTwo 34 = .ok (.aload_n 0, 1) := dk_42 (dk_at dksX6_readTwo_1 10 rfl rfl)
theorem dX6_readTwo_35 : decode cX6_readTwo 35 = .ok (.getfield 56, 3) := dk_180 0 56 (dk_at dksX6_readTwo_1 11 rfl rfl)
theorem dX6_readTwo_38 : decode cX6_readTwo 38 = .ok (.iastore, 1) := dk_79 (dk_at dksX6_readTwo_1 14 rfl rfl)
theorem dX6_readTwo_39 : decode cX6_readTwo 39 = .ok (.iconst 1, 1) := dk_4 (dk_at dksX6_readTwo_1 15 rfl rfl)
theorem dX6_readTwo_40 : decode cX6_readTwo 40 = .ok (.ireturn, 1) := dk_172 (dk_at dksX6_readTwo_1 16 rfl rfl)
abbrev cX6_plan : ByteArray := prog_16_method_40_code
def yX6_plan : MethodName := ⟨RX6, "plan", "()I"⟩
def dkwX6_plan_2 : List UInt8 := [96, 181, 0, 225, 42, 180, 0, 225, 4, 100, 172]
abbrev dktX6_plan_2 : List UInt8 := dkwX6_plan_2 ++ []
def dkwX6_plan_1 : List UInt8 := [154, 0, 5, 2, 172, 42, 180, 1, 10, 42, 180, 0, 225, 42, 180, 0, 222, 79, 42, 89, 180, 0, 225, 4]
abbrev dktX6_plan_1 : List UInt8 := dkwX6_plan_1 ++ dktX6_plan_2
def dkwX6_plan_0 : List UInt8 := [42, 180, 0, 225, 6, 160, 0, 11, 42, 3, 181, 0, 67, 16, 253, 172, 42, 182, 1, 66, 42, 182, 1, 84]
abbrev dktX6_plan_0 : List UInt8 := dkwX6_plan_0 ++ dktX6_plan_1
theorem dksX6_plan_0 : cX6_plan.data.toList.drop 0 = dktX6_plan_0 := by decide +kernel
theorem dksX6_plan_1 : cX6_plan.data.toList.drop 24 = dktX6_plan_1 := dk_seg dksX6_plan_0 24 rfl rfl
theorem dksX6_plan_2 : cX6_plan.data.toList.drop 48 = dktX6_plan_2 := dk_seg dksX6_plan_1 24 rfl rfl
theorem dX6_plan_0 : decode cX6_plan 0 = .ok (.aload_n 0, 1) := dk_42 (dk_at dksX6_plan_0 0 rfl rfl)
theorem dX6_plan_1 : decode cX6_plan 1 = .ok (.getfield 225, 3) := dk_180 0 225 (dk_at dksX6_plan_0 1 rfl rfl)
theorem dX6_plan_4 : decode cX6_plan 4 = .ok (.iconst 3, 1) := dk_6 (dk_at dksX6_plan_0 4 rfl rfl)
theorem dX6_plan_5 : decode cX6_plan 5 = .ok (.if_icmp .ne 11, 3) := dk_160 0 11 (dk_at dksX6_plan_0 5 rfl rfl)
theorem dX6_plan_8 : decode cX6_plan 8 = .ok (.aload_n 0, 1) := dk_42 (dk_at dksX6_plan_0 8 rfl rfl)
theorem dX6_plan_9 : decode cX6_plan 9 = .ok (.iconst 0, 1) := dk_3 (dk_at dksX6_plan_0 9 rfl rfl)
theorem dX6_plan_10 : decode cX6_plan 10 = .ok (.putfield 67, 3) := dk_181 0 67 (dk_at dksX6_plan_0 10 rfl rfl)
theorem dX6_plan_13 : decode cX6_plan 13 = .ok (.bipush (-3), 2) := dk_16 253 (dk_at dksX6_plan_0 13 rfl rfl)
theorem dX6_plan_15 : decode cX6_plan 15 = .ok (.ireturn, 1) := dk_172 (dk_at dksX6_plan_0 15 rfl rfl)
theorem dX6_plan_16 : decode cX6_plan 16 = .ok (.aload_n 0, 1) := dk_42 (dk_at dksX6_plan_0 16 rfl rfl)
theorem dX6_plan_17 : decode cX6_plan 17 = .ok (.invokevirtual 322, 3) := dk_182 1 66 (dk_at dksX6_plan_0 17 rfl rfl)
theorem dX6_plan_20 : decode cX6_plan 20 = .ok (.aload_n 0, 1) := dk_42 (dk_at dksX6_plan_0 20 rfl rfl)
theorem dX6_plan_21 : decode cX6_plan 21 = .ok (.invokevirtual 340, 3) := dk_182 1 84 (dk_at dksX6_plan_0 21 rfl rfl)
theorem dX6_plan_24 : decode cX6_plan 24 = .ok (.ifCond .ne 5, 3) := dk_154 0 5 (dk_at dksX6_plan_1 0 rfl rfl)
theorem dX6_plan_27 : decode cX6_plan 27 = .ok (.iconst (-1), 1) := dk_2 (dk_at dksX6_plan_1 3 rfl rfl)
theorem dX6_plan_28 : decode cX6_plan 28 = .ok (.ireturn, 1) := dk_172 (dk_at dksX6_plan_1 4 rfl rfl)
theorem dX6_plan_29 : decode cX6_plan 29 = .ok (.aload_n 0, 1) := dk_42 (dk_at dksX6_plan_1 5 rfl rfl)
theorem dX6_plan_30 : decode cX6_plan 30 = .ok (.getfield 266, 3) := dk_180 1 10 (dk_at dksX6_plan_1 6 rfl rfl)
theorem dX6_plan_33 : decode cX6_plan 33 = .ok (.aload_n 0, 1) := dk_42 (dk_at dksX6_plan_1 9 rfl rfl)
theorem dX6_plan_34 : decode cX6_plan 34 = .ok (.getfield 225, 3) := dk_180 0 225 (dk_at dksX6_plan_1 10 rfl rfl)
theorem dX6_plan_37 : decode cX6_plan 37 = .ok (.aload_n 0, 1) := dk_42 (dk_at dksX6_plan_1 13 rfl rfl)
theorem dX6_plan_38 : decode cX6_plan 38 = .ok (.getfield 222, 3) := dk_180 0 222 (dk_at dksX6_plan_1 14 rfl rfl)
theorem dX6_plan_41 : decode cX6_plan 41 = .ok (.iastore, 1) := dk_79 (dk_at dksX6_plan_1 17 rfl rfl)
theorem dX6_plan_42 : decode cX6_plan 42 = .ok (.aload_n 0, 1) := dk_42 (dk_at dksX6_plan_1 18 rfl rfl)
theorem dX6_plan_43 : decode cX6_plan 43 = .ok (.dup, 1) := dk_89 (dk_at dksX6_plan_1 19 rfl rfl)
theorem dX6_plan_44 : decode cX6_plan 44 = .ok (.getfield 225, 3) := dk_180 0 225 (dk_at dksX6_plan_1 20 rfl rfl)
theorem dX6_plan_47 : decode cX6_plan 47 = .ok (.iconst 1, 1) := dk_4 (dk_at dksX6_plan_1 23 rfl rfl)
theorem dX6_plan_48 : decode cX6_plan 48 = .ok (.iadd, 1) := dk_96 (dk_at dksX6_plan_2 0 rfl rfl)
theorem dX6_plan_49 : decode cX6_plan 49 = .ok (.putfield 225, 3) := dk_181 0 225 (dk_at dksX6_plan_2 1 rfl rfl)
theorem dX6_plan_52 : decode cX6_plan 52 = .ok (.aload_n 0, 1) := dk_42 (dk_at dksX6_plan_2 4 rfl rfl)
theorem dX6_plan_53 : decode cX6_plan 53 = .ok (.getfield 225, 3) := dk_180 0 225 (dk_at dksX6_plan_2 5 rfl rfl)
theorem dX6_plan_56 : decode cX6_plan 56 = .ok (.iconst 1, 1) := dk_4 (dk_at dksX6_plan_2 8 rfl rfl)
theorem dX6_plan_57 : decode cX6_plan 57 = .ok (.isub, 1) := dk_100 (dk_at dksX6_plan_2 9 rfl rfl)
theorem dX6_plan_58 : decode cX6_plan 58 = .ok (.ireturn, 1) := dk_172 (dk_at dksX6_plan_2 10 rfl rfl)
abbrev cX6_readPlan : ByteArray := prog_16_method_31_code
def yX6_readPlan : MethodName := ⟨RX6, "readPlan", "()Z"⟩
def dkwX6_readPlan_1 : List UInt8 := [154, 255, 238, 3, 172, 4, 172]
abbrev dktX6_readPlan_1 : List UInt8 := dkwX6_readPlan_1 ++ []
def dkwX6_readPlan_0 : List UInt8 := [42, 3, 181, 0, 222, 42, 180, 0, 27, 153, 0, 19, 42, 182, 0, 237, 153, 0, 10, 42, 182, 0, 159]
abbrev dktX6_readPlan_0 : List UInt8 := dkwX6_readPlan_0 ++ dktX6_readPlan_1
theorem dksX6_readPlan_0 : cX6_readPlan.data.toList.drop 0 = dktX6_readPlan_0 := by decide +kernel
theorem dksX6_readPlan_1 : cX6_readPlan.data.toList.drop 23 = dktX6_readPlan_1 := dk_seg dksX6_readPlan_0 23 rfl rfl
theorem dX6_readPlan_0 : decode cX6_readPlan 0 = .ok (.aload_n 0, 1) := dk_42 (dk_at dksX6_readPlan_0 0 rfl rfl)
theorem dX6_readPlan_1 : decode cX6_readPlan 1 = .ok (.iconst 0, 1) := dk_3 (dk_at dksX6_readPlan_0 1 rfl rfl)
theorem dX6_readPlan_2 : decode cX6_readPlan 2 = .ok (.putfield 222, 3) := dk_181 0 222 (dk_at dksX6_readPlan_0 2 rfl rfl)
theorem dX6_readPlan_5 : decode cX6_readPlan 5 = .ok (.aload_n 0, 1) := dk_42 (dk_at dksX6_readPlan_0 5 rfl rfl)
theorem dX6_readPlan_6 : decode cX6_readPlan 6 = .ok (.getfield 27, 3) := dk_180 0 27 (dk_at dksX6_readPlan_0 6 rfl rfl)
theorem dX6_readPlan_9 : decode cX6_readPlan 9 = .ok (.ifCond .eq 19, 3) := dk_153 0 19 (dk_at dksX6_readPlan_0 9 rfl rfl)
theorem dX6_readPlan_12 : decode cX6_readPlan 12 = .ok (.aload_n 0, 1) := dk_42 (dk_at dksX6_readPlan_0 12 rfl rfl)
theorem dX6_readPlan_13 : decode cX6_readPlan 13 = .ok (.invokevirtual 237, 3) := dk_182 0 237 (dk_at dksX6_readPlan_0 13 rfl rfl)
theorem dX6_readPlan_16 : decode cX6_readPlan 16 = .ok (.ifCond .eq 10, 3) := dk_153 0 10 (dk_at dksX6_readPlan_0 16 rfl rfl)
theorem dX6_readPlan_19 : decode cX6_readPlan 19 = .ok (.aload_n 0, 1) := dk_42 (dk_at dksX6_readPlan_0 19 rfl rfl)
theorem dX6_readPlan_20 : decode cX6_readPlan 20 = .ok (.invokevirtual 159, 3) := dk_182 0 159 (dk_at dksX6_readPlan_0 20 rfl rfl)
theorem dX6_readPlan_23 : decode cX6_readPlan 23 = .ok (.ifCond .ne (-18), 3) := dk_154 255 238 (dk_at dksX6_readPlan_1 0 rfl rfl)
theorem dX6_readPlan_26 : decode cX6_readPlan 26 = .ok (.iconst 0, 1) := dk_3 (dk_at dksX6_readPlan_1 3 rfl rfl)
theorem dX6_readPlan_27 : decode cX6_readPlan 27 = .ok (.ireturn, 1) := dk_172 (dk_at dksX6_readPlan_1 4 rfl rfl)
theorem dX6_readPlan_28 : decode cX6_readPlan 28 = .ok (.iconst 1, 1) := dk_4 (dk_at dksX6_readPlan_1 5 rfl rfl)
theorem dX6_readPlan_29 : decode cX6_readPlan 29 = .ok (.ireturn, 1) := dk_172 (dk_at dksX6_readPlan_1 6 rfl rfl)
abbrev cX6_readHand : ByteArray := prog_16_method_30_code
def yX6_readHand : MethodName := ⟨RX6, "readHand", "()Z"⟩
def dkwX6_readHand_6 : List UInt8 := [181, 0, 222, 4, 172]
abbrev dktX6_readHand_6 : List UInt8 := dkwX6_readHand_6 ++ []
def dkwX6_readHand_5 : List UInt8 := [180, 0, 228, 27, 92, 46, 4, 96, 79, 42, 182, 0, 231, 61, 167, 255, 196, 42, 89, 180, 0, 222, 4, 96]
abbrev dktX6_readHand_5 : List UInt8 := dkwX6_readHand_5 ++ dktX6_readHand_6
def dkwX6_readHand_4 : List UInt8 := [6, 16, 8, 27, 104, 42, 180, 0, 228, 27, 46, 96, 104, 28, 182, 0, 234, 154, 0, 5, 3, 172, 42]
abbrev dktX6_readHand_4 : List UInt8 := dkwX6_readHand_4 ++ dktX6_readHand_5
def dkwX6_readHand_3 : List UInt8 := [61, 28, 2, 159, 0, 61, 42, 180, 0, 228, 27, 46, 16, 8, 160, 0, 9, 42, 7, 182, 0, 49, 172, 42]
abbrev dktX6_readHand_3 : List UInt8 := dkwX6_readHand_3 ++ dktX6_readHand_4
def dkwX6_readHand_2 : List UInt8 := [180, 0, 228, 27, 3, 79, 42, 182, 0, 231, 2, 160, 0, 9, 42, 4, 182, 0, 49, 172, 42, 182, 0, 231]
abbrev dktX6_readHand_2 : List UInt8 := dkwX6_readHand_2 ++ dktX6_readHand_3
def dkwX6_readHand_1 : List UInt8 := [7, 182, 0, 49, 172, 7, 42, 180, 0, 225, 104, 42, 180, 0, 222, 96, 60, 42, 182, 0, 63, 42]
abbrev dktX6_readHand_1 : List UInt8 := dkwX6_readHand_1 ++ dktX6_readHand_2
def dkwX6_readHand_0 : List UInt8 := [42, 18, 221, 182, 0, 106, 154, 0, 9, 42, 4, 182, 0, 49, 172, 42, 180, 0, 222, 7, 160, 0, 9, 42]
abbrev dktX6_readHand_0 : List UInt8 := dkwX6_readHand_0 ++ dktX6_readHand_1
theorem dksX6_readHand_0 : cX6_readHand.data.toList.drop 0 = dktX6_readHand_0 := by decide +kernel
theorem dksX6_readHand_1 : cX6_readHand.data.toList.drop 24 = dktX6_readHand_1 := dk_seg dksX6_readHand_0 24 rfl rfl
theorem dksX6_readHand_2 : cX6_readHand.data.toList.drop 46 = dktX6_readHand_2 := dk_seg dksX6_readHand_1 22 rfl rfl
theorem dksX6_readHand_3 : cX6_readHand.data.toList.drop 70 = dktX6_readHand_3 := dk_seg dksX6_readHand_2 24 rfl rfl
theorem dksX6_readHand_4 : cX6_readHand.data.toList.drop 94 = dktX6_readHand_4 := dk_seg dksX6_readHand_3 24 rfl rfl
theorem dksX6_readHand_5 : cX6_readHand.data.toList.drop 117 = dktX6_readHand_5 := dk_seg dksX6_readHand_4 23 rfl rfl
theorem dksX6_readHand_6 : cX6_readHand.data.toList.drop 141 = dktX6_readHand_6 := dk_seg dksX6_readHand_5 24 rfl rfl
theorem dX6_readHand_0 : decode cX6_readHand 0 = .ok (.aload_n 0, 1) := dk_42 (dk_at dksX6_readHand_0 0 rfl rfl)
theorem dX6_readHand_1 : decode cX6_readHand 1 = .ok (.ldc 221, 2) := dk_18 221 (dk_at dksX6_readHand_0 1 rfl rfl)
theorem dX6_readHand_3 : decode cX6_readHand 3 = .ok (.invokevirtual 106, 3) := dk_182 0 106 (dk_at dksX6_readHand_0 3 rfl rfl)
theorem dX6_readHand_6 : decode cX6_readHand 6 = .ok (.ifCond .ne 9, 3) := dk_154 0 9 (dk_at dksX6_readHand_0 6 rfl rfl)
theorem dX6_readHand_9 : decode cX6_readHand 9 = .ok (.aload_n 0, 1) := dk_42 (dk_at dksX6_readHand_0 9 rfl rfl)
theorem dX6_readHand_10 : decode cX6_readHand 10 = .ok (.iconst 1, 1) := dk_4 (dk_at dksX6_readHand_0 10 rfl rfl)
theorem dX6_readHand_11 : decode cX6_readHand 11 = .ok (.invokevirtual 49, 3) := dk_182 0 49 (dk_at dksX6_readHand_0 11 rfl rfl)
theorem dX6_readHand_14 : decode cX6_readHand 14 = .ok (.ireturn, 1) := dk_172 (dk_at dksX6_readHand_0 14 rfl rfl)
theorem dX6_readHand_15 : decode cX6_readHand 15 = .ok (.aload_n 0, 1) := dk_42 (dk_at dksX6_readHand_0 15 rfl rfl)
theorem dX6_readHand_16 : decode cX6_readHand 16 = .ok (.getfield 222, 3) := dk_180 0 222 (dk_at dksX6_readHand_0 16 rfl rfl)
theorem dX6_readHand_19 : decode cX6_readHand 19 = .ok (.iconst 4, 1) := dk_7 (dk_at dksX6_readHand_0 19 rfl rfl)
theorem dX6_readHand_20 : decode cX6_readHand 20 = .ok (.if_icmp .ne 9, 3) := dk_160 0 9 (dk_at dksX6_readHand_0 20 rfl rfl)
theorem dX6_readHand_23 : decode cX6_readHand 23 = .ok (.aload_n 0, 1) := dk_42 (dk_at dksX6_readHand_0 23 rfl rfl)
theorem dX6_readHand_24 : decode cX6_readHand 24 = .ok (.iconst 4, 1) := dk_7 (dk_at dksX6_readHand_1 0 rfl rfl)
theorem dX6_readHand_25 : decode cX6_readHand 25 = .ok (.invokevirtual 49, 3) := dk_182 0 49 (dk_at dksX6_readHand_1 1 rfl rfl)
theorem dX6_readHand_28 : decode cX6_readHand 28 = .ok (.ireturn, 1) := dk_172 (dk_at dksX6_readHand_1 4 rfl rfl)
theorem dX6_readHand_29 : decode cX6_readHand 29 = .ok (.iconst 4, 1) := dk_7 (dk_at dksX6_readHand_1 5 rfl rfl)
theorem dX6_readHand_30 : decode cX6_readHand 30 = .ok (.aload_n 0, 1) := dk_42 (dk_at dksX6_readHand_1 6 rfl rfl)
theorem dX6_readHand_31 : decode cX6_readHand 31 = .ok (.getfield 225, 3) := dk_180 0 225 (dk_at dksX6_readHand_1 7 rfl rfl)
theorem dX6_readHand_34 : decode cX6_readHand 34 = .ok (.imul, 1) := dk_104 (dk_at dksX6_readHand_1 10 rfl rfl)
theorem dX6_readHand_35 : decode cX6_readHand 35 = .ok (.aload_n 0, 1) := dk_42 (dk_at dksX6_readHand_1 11 rfl rfl)
theorem dX6_readHand_36 : decode cX6_readHand 36 = .ok (.getfield 222, 3) := dk_180 0 222 (dk_at dksX6_readHand_1 12 rfl rfl)
theorem dX6_readHand_39 : decode cX6_readHand 39 = .ok (.iadd, 1) := dk_96 (dk_at dksX6_readHand_1 15 rfl rfl)
theorem dX6_readHand_40 : decode cX6_readHand 40 = .ok (.istore_n 1, 1) := dk_60 (dk_at dksX6_readHand_1 16 rfl rfl)
theorem dX6_readHand_41 : decode cX6_readHand 41 = .ok (.aload_n 0, 1) := dk_42 (dk_at dksX6_readHand_1 17 rfl rfl)
theorem dX6_readHand_42 : decode cX6_readHand 42 = .ok (.invokevirtual 63, 3) := dk_182 0 63 (dk_at dksX6_readHand_1 18 rfl rfl)
theorem dX6_readHand_45 : decode cX6_readHand 45 = .ok (.aload_n 0, 1) := dk_42 (dk_at dksX6_readHand_1 21 rfl rfl)
theorem dX6_readHand_46 : decode cX6_readHand 46 = .ok (.getfield 228, 3) := dk_180 0 228 (dk_at dksX6_readHand_2 0 rfl rfl)
theorem dX6_readHand_49 : decode cX6_readHand 49 = .ok (.iload_n 1, 1) := dk_27 (dk_at dksX6_readHand_2 3 rfl rfl)
theorem dX6_readHand_50 : decode cX6_readHand 50 = .ok (.iconst 0, 1) := dk_3 (dk_at dksX6_readHand_2 4 rfl rfl)
theorem dX6_readHand_51 : decode cX6_readHand 51 = .ok (.iastore, 1) := dk_79 (dk_at dksX6_readHand_2 5 rfl rfl)
theorem dX6_readHand_52 : decode cX6_readHand 52 = .ok (.aload_n 0, 1) := dk_42 (dk_at dksX6_readHand_2 6 rfl rfl)
theorem dX6_readHand_53 : decode cX6_readHand 53 = .ok (.invokevirtual 231, 3) := dk_182 0 231 (dk_at dksX6_readHand_2 7 rfl rfl)
theorem dX6_readHand_56 : decode cX6_readHand 56 = .ok (.iconst (-1), 1) := dk_2 (dk_at dksX6_readHand_2 10 rfl rfl)
theorem dX6_readHand_57 : decode cX6_readHand 57 = .ok (.if_icmp .ne 9, 3) := dk_160 0 9 (dk_at dksX6_readHand_2 11 rfl rfl)
theorem dX6_readHand_60 : decode cX6_readHand 60 = .ok (.aload_n 0, 1) := dk_42 (dk_at dksX6_readHand_2 14 rfl rfl)
theorem dX6_readHand_61 : decode cX6_readHand 61 = .ok (.iconst 1, 1) := dk_4 (dk_at dksX6_readHand_2 15 rfl rfl)
theorem dX6_readHand_62 : decode cX6_readHand 62 = .ok (.invokevirtual 49, 3) := dk_182 0 49 (dk_at dksX6_readHand_2 16 rfl rfl)
theorem dX6_readHand_65 : decode cX6_readHand 65 = .ok (.ireturn, 1) := dk_172 (dk_at dksX6_readHand_2 19 rfl rfl)
theorem dX6_readHand_66 : decode cX6_readHand 66 = .ok (.aload_n 0, 1) := dk_42 (dk_at dksX6_readHand_2 20 rfl rfl)
theorem dX6_readHand_67 : decode cX6_readHand 67 = .ok (.invokevirtual 231, 3) := dk_182 0 231 (dk_at dksX6_readHand_2 21 rfl rfl)
theorem dX6_readHand_70 : decode cX6_readHand 70 = .ok (.istore_n 2, 1) := dk_61 (dk_at dksX6_readHand_3 0 rfl rfl)
theorem dX6_readHand_71 : decode cX6_readHand 71 = .ok (.iload_n 2, 1) := dk_28 (dk_at dksX6_readHand_3 1 rfl rfl)
theorem dX6_readHand_72 : decode cX6_readHand 72 = .ok (.iconst (-1), 1) := dk_2 (dk_at dksX6_readHand_3 2 rfl rfl)
theorem dX6_readHand_73 : decode cX6_readHand 73 = .ok (.if_icmp .eq 61, 3) := dk_159 0 61 (dk_at dksX6_readHand_3 3 rfl rfl)
theorem dX6_readHand_76 : decode cX6_readHand 76 = .ok (.aload_n 0, 1) := dk_42 (dk_at dksX6_readHand_3 6 rfl rfl)
theorem dX6_readHand_77 : decode cX6_readHand 77 = .ok (.getfield 228, 3) := dk_180 0 228 (dk_at dksX6_readHand_3 7 rfl rfl)
theorem dX6_readHand_80 : decode cX6_readHand 80 = .ok (.iload_n 1, 1) := dk_27 (dk_at dksX6_readHand_3 10 rfl rfl)
theorem dX6_readHand_81 : decode cX6_readHand 81 = .ok (.iaload, 1) := dk_46 (dk_at dksX6_readHand_3 11 rfl rfl)
theorem dX6_readHand_82 : decode cX6_readHand 82 = .ok (.bipush 8, 2) := dk_16 8 (dk_at dksX6_readHand_3 12 rfl rfl)
theorem dX6_readHand_84 : decode cX6_readHand 84 = .ok (.if_icmp .ne 9, 3) := dk_160 0 9 (dk_at dksX6_readHand_3 14 rfl rfl)
theorem dX6_readHand_87 : decode cX6_readHand 87 = .ok (.aload_n 0, 1) := dk_42 (dk_at dksX6_readHand_3 17 rfl rfl)
theorem dX6_readHand_88 : decode cX6_readHand 88 = .ok (.iconst 4, 1) := dk_7 (dk_at dksX6_readHand_3 18 rfl rfl)
theorem dX6_readHand_89 : decode cX6_readHand 89 = .ok (.invokevirtual 49, 3) := dk_182 0 49 (dk_at dksX6_readHand_3 19 rfl rfl)
theorem dX6_readHand_92 : decode cX6_readHand 92 = .ok (.ireturn, 1) := dk_172 (dk_at dksX6_readHand_3 22 rfl rfl)
theorem dX6_readHand_93 : decode cX6_readHand 93 = .ok (.aload_n 0, 1) := dk_42 (dk_at dksX6_readHand_3 23 rfl rfl)
theorem dX6_readHand_94 : decode cX6_readHand 94 = .ok (.iconst 3, 1) := dk_6 (dk_at dksX6_readHand_4 0 rfl rfl)
theorem dX6_readHand_95 : decode cX6_readHand 95 = .ok (.bipush 8, 2) := dk_16 8 (dk_at dksX6_readHand_4 1 rfl rfl)
theorem dX6_readHand_97 : decode cX6_readHand 97 = .ok (.iload_n 1, 1) := dk_27 (dk_at dksX6_readHand_4 3 rfl rfl)
theorem dX6_readHand_98 : decode cX6_readHand 98 = .ok (.imul, 1) := dk_104 (dk_at dksX6_readHand_4 4 rfl rfl)
theorem dX6_readHand_99 : decode cX6_readHand 99 = .ok (.aload_n 0, 1) := dk_42 (dk_at dksX6_readHand_4 5 rfl rfl)
theorem dX6_readHand_100 : decode cX6_readHand 100 = .ok (.getfield 228, 3) := dk_180 0 228 (dk_at dksX6_readHand_4 6 rfl rfl)
theorem dX6_readHand_103 : decode cX6_readHand 103 = .ok (.iload_n 1, 1) := dk_27 (dk_at dksX6_readHand_4 9 rfl rfl)
theorem dX6_readHand_104 : decode cX6_readHand 104 = .ok (.iaload, 1) := dk_46 (dk_at dksX6_readHand_4 10 rfl rfl)
theorem dX6_readHand_105 : decode cX6_readHand 105 = .ok (.iadd, 1) := dk_96 (dk_at dksX6_readHand_4 11 rfl rfl)
theorem dX6_readHand_106 : decode cX6_readHand 106 = .ok (.imul, 1) := dk_104 (dk_at dksX6_readHand_4 12 rfl rfl)
theorem dX6_readHand_107 : decode cX6_readHand 107 = .ok (.iload_n 2, 1) := dk_28 (dk_at dksX6_readHand_4 13 rfl rfl)
theorem dX6_readHand_108 : decode cX6_readHand 108 = .ok (.invokevirtual 234, 3) := dk_182 0 234 (dk_at dksX6_readHand_4 14 rfl rfl)
theorem dX6_readHand_111 : decode cX6_readHand 111 = .ok (.ifCond .ne 5, 3) := dk_154 0 5 (dk_at dksX6_readHand_4 17 rfl rfl)
theorem dX6_readHand_114 : decode cX6_readHand 114 = .ok (.iconst 0, 1) := dk_3 (dk_at dksX6_readHand_4 20 rfl rfl)
theorem dX6_readHand_115 : decode cX6_readHand 115 = .ok (.ireturn, 1) := dk_172 (dk_at dksX6_readHand_4 21 rfl rfl)
theorem dX6_readHand_116 : decode cX6_readHand 116 = .ok (.aload_n 0, 1) := dk_42 (dk_at dksX6_readHand_4 22 rfl rfl)
theorem dX6_readHand_117 : decode cX6_readHand 117 = .ok (.getfield 228, 3) := dk_180 0 228 (dk_at dksX6_readHand_5 0 rfl rfl)
theorem dX6_readHand_120 : decode cX6_readHand 120 = .ok (.iload_n 1, 1) := dk_27 (dk_at dksX6_readHand_5 3 rfl rfl)
theorem dX6_readHand_121 : decode cX6_readHand 121 = .ok (.dup2, 1) := dk_92 (dk_at dksX6_readHand_5 4 rfl rfl)
theorem dX6_readHand_122 : decode cX6_readHand 122 = .ok (.iaload, 1) := dk_46 (dk_at dksX6_readHand_5 5 rfl rfl)
theorem dX6_readHand_123 : decode cX6_readHand 123 = .ok (.iconst 1, 1) := dk_4 (dk_at dksX6_readHand_5 6 rfl rfl)
theorem dX6_readHand_124 : decode cX6_readHand 124 = .ok (.iadd, 1) := dk_96 (dk_at dksX6_readHand_5 7 rfl rfl)
theorem dX6_readHand_125 : decode cX6_readHand 125 = .ok (.iastore, 1) := dk_79 (dk_at dksX6_readHand_5 8 rfl rfl)
theorem dX6_readHand_126 : decode cX6_readHand 126 = .ok (.aload_n 0, 1) := dk_42 (dk_at dksX6_readHand_5 9 rfl rfl)
theorem dX6_readHand_127 : decode cX6_readHand 127 = .ok (.invokevirtual 231, 3) := dk_182 0 231 (dk_at dksX6_readHand_5 10 rfl rfl)
theorem dX6_readHand_130 : decode cX6_readHand 130 = .ok (.istore_n 2, 1) := dk_61 (dk_at dksX6_readHand_5 13 rfl rfl)
theorem dX6_readHand_131 : decode cX6_readHand 131 = .ok (.goto (-60), 3) := dk_167 255 196 (dk_at dksX6_readHand_5 14 rfl rfl)
theorem dX6_readHand_134 : decode cX6_readHand 134 = .ok (.aload_n 0, 1) := dk_42 (dk_at dksX6_readHand_5 17 rfl rfl)
theorem dX6_readHand_135 : decode cX6_readHand 135 = .ok (.dup, 1) := dk_89 (dk_at dksX6_readHand_5 18 rfl rfl)
theorem dX6_readHand_136 : decode cX6_readHand 136 = .ok (.getfield 222, 3) := dk_180 0 222 (dk_at dksX6_readHand_5 19 rfl rfl)
theorem dX6_readHand_139 : decode cX6_readHand 139 = .ok (.iconst 1, 1) := dk_4 (dk_at dksX6_readHand_5 22 rfl rfl)
theorem dX6_readHand_140 : decode cX6_readHand 140 = .ok (.iadd, 1) := dk_96 (dk_at dksX6_readHand_5 23 rfl rfl)
theorem dX6_readHand_141 : decode cX6_readHand 141 = .ok (.putfield 222, 3) := dk_181 0 222 (dk_at dksX6_readHand_6 0 rfl rfl)
theorem dX6_readHand_144 : decode cX6_readHand 144 = .ok (.iconst 1, 1) := dk_4 (dk_at dksX6_readHand_6 3 rfl rfl)
theorem dX6_readHand_145 : decode cX6_readHand 145 = .ok (.ireturn, 1) := dk_172 (dk_at dksX6_readHand_6 4 rfl rfl)
abbrev cX6_actAt : ByteArray := prog_16_method_29_code
def yX6_actAt : MethodName := ⟨RX6, "actAt", "()I"⟩
def dkwX6_actAt_2 : List UInt8 := [153, 0, 7, 6, 167, 0, 17, 42, 18, 219, 182, 0, 106, 153, 0, 7, 7, 167, 0, 4, 2, 172]
abbrev dktX6_actAt_2 : List UInt8 := dkwX6_actAt_2 ++ []
def dkwX6_actAt_1 : List UInt8 := [167, 0, 43, 42, 18, 215, 182, 0, 106, 153, 0, 7, 5, 167, 0, 30, 42, 18, 217, 182, 0, 106]
abbrev dktX6_actAt_1 : List UInt8 := dkwX6_actAt_1 ++ dktX6_actAt_2
def dkwX6_actAt_0 : List UInt8 := [42, 18, 213, 182, 0, 106, 153, 0, 7, 3, 167, 0, 56, 42, 18, 110, 182, 0, 106, 153, 0, 7, 4]
abbrev dktX6_actAt_0 : List UInt8 := dkwX6_actAt_0 ++ dktX6_actAt_1
theorem dksX6_actAt_0 : cX6_actAt.data.toList.drop 0 = dktX6_actAt_0 := by decide +kernel
theorem dksX6_actAt_1 : cX6_actAt.data.toList.drop 23 = dktX6_actAt_1 := dk_seg dksX6_actAt_0 23 rfl rfl
theorem dksX6_actAt_2 : cX6_actAt.data.toList.drop 45 = dktX6_actAt_2 := dk_seg dksX6_actAt_1 22 rfl rfl
theorem dX6_actAt_0 : decode cX6_actAt 0 = .ok (.aload_n 0, 1) := dk_42 (dk_at dksX6_actAt_0 0 rfl rfl)
theorem dX6_actAt_1 : decode cX6_actAt 1 = .ok (.ldc 213, 2) := dk_18 213 (dk_at dksX6_actAt_0 1 rfl rfl)
theorem dX6_actAt_3 : decode cX6_actAt 3 = .ok (.invokevirtual 106, 3) := dk_182 0 106 (dk_at dksX6_actAt_0 3 rfl rfl)
theorem dX6_actAt_6 : decode cX6_actAt 6 = .ok (.ifCond .eq 7, 3) := dk_153 0 7 (dk_at dksX6_actAt_0 6 rfl rfl)
theorem dX6_actAt_9 : decode cX6_actAt 9 = .ok (.iconst 0, 1) := dk_3 (dk_at dksX6_actAt_0 9 rfl rfl)
theorem dX6_actAt_10 : decode cX6_actAt 10 = .ok (.goto 56, 3) := dk_167 0 56 (dk_at dksX6_actAt_0 10 rfl rfl)
theorem dX6_actAt_13 : decode cX6_actAt 13 = .ok (.aload_n 0, 1) := dk_42 (dk_at dksX6_actAt_0 13 rfl rfl)
theorem dX6_actAt_14 : decode cX6_actAt 14 = .ok (.ldc 110, 2) := dk_18 110 (dk_at dksX6_actAt_0 14 rfl rfl)
theorem dX6_actAt_16 : decode cX6_actAt 16 = .ok (.invokevirtual 106, 3) := dk_182 0 106 (dk_at dksX6_actAt_0 16 rfl rfl)
theorem dX6_actAt_19 : decode cX6_actAt 19 = .ok (.ifCond .eq 7, 3) := dk_153 0 7 (dk_at dksX6_actAt_0 19 rfl rfl)
theorem dX6_actAt_22 : decode cX6_actAt 22 = .ok (.iconst 1, 1) := dk_4 (dk_at dksX6_actAt_0 22 rfl rfl)
theorem dX6_actAt_23 : decode cX6_actAt 23 = .ok (.goto 43, 3) := dk_167 0 43 (dk_at dksX6_actAt_1 0 rfl rfl)
theorem dX6_actAt_26 : decode cX6_actAt 26 = .ok (.aload_n 0, 1) := dk_42 (dk_at dksX6_actAt_1 3 rfl rfl)
theorem dX6_actAt_27 : decode cX6_actAt 27 = .ok (.ldc 215, 2) := dk_18 215 (dk_at dksX6_actAt_1 4 rfl rfl)
theorem dX6_actAt_29 : decode cX6_actAt 29 = .ok (.invokevirtual 106, 3) := dk_182 0 106 (dk_at dksX6_actAt_1 6 rfl rfl)
theorem dX6_actAt_32 : decode cX6_actAt 32 = .ok (.ifCond .eq 7, 3) := dk_153 0 7 (dk_at dksX6_actAt_1 9 rfl rfl)
theorem dX6_actAt_35 : decode cX6_actAt 35 = .ok (.iconst 2, 1) := dk_5 (dk_at dksX6_actAt_1 12 rfl rfl)
theorem dX6_actAt_36 : decode cX6_actAt 36 = .ok (.goto 30, 3) := dk_167 0 30 (dk_at dksX6_actAt_1 13 rfl rfl)
theorem dX6_actAt_39 : decode cX6_actAt 39 = .ok (.aload_n 0, 1) := dk_42 (dk_at dksX6_actAt_1 16 rfl rfl)
theorem dX6_actAt_40 : decode cX6_actAt 40 = .ok (.ldc 217, 2) := dk_18 217 (dk_at dksX6_actAt_1 17 rfl rfl)
theorem dX6_actAt_42 : decode cX6_actAt 42 = .ok (.invokevirtual 106, 3) := dk_182 0 106 (dk_at dksX6_actAt_1 19 rfl rfl)
theorem dX6_actAt_45 : decode cX6_actAt 45 = .ok (.ifCond .eq 7, 3) := dk_153 0 7 (dk_at dksX6_actAt_2 0 rfl rfl)
theorem dX6_actAt_48 : decode cX6_actAt 48 = .ok (.iconst 3, 1) := dk_6 (dk_at dksX6_actAt_2 3 rfl rfl)
theorem dX6_actAt_49 : decode cX6_actAt 49 = .ok (.goto 17, 3) := dk_167 0 17 (dk_at dksX6_actAt_2 4 rfl rfl)
theorem dX6_actAt_52 : decode cX6_actAt 52 = .ok (.aload_n 0, 1) := dk_42 (dk_at dksX6_actAt_2 7 rfl rfl)
theorem dX6_actAt_53 : decode cX6_actAt 53 = .ok (.ldc 219, 2) := dk_18 219 (dk_at dksX6_actAt_2 8 rfl rfl)
theorem dX6_actAt_55 : decode cX6_actAt 55 = .ok (.invokevirtual 106, 3) := dk_182 0 106 (dk_at dksX6_actAt_2 10 rfl rfl)
theorem dX6_actAt_58 : decode cX6_actAt 58 = .ok (.ifCond .eq 7, 3) := dk_153 0 7 (dk_at dksX6_actAt_2 13 rfl rfl)
theorem dX6_actAt_61 : decode cX6_actAt 61 = .ok (.iconst 4, 1) := dk_7 (dk_at dksX6_actAt_2 16 rfl rfl)
theorem dX6_actAt_62 : decode cX6_actAt 62 = .ok (.goto 4, 3) := dk_167 0 4 (dk_at dksX6_actAt_2 17 rfl rfl)
theorem dX6_actAt_65 : decode cX6_actAt 65 = .ok (.iconst (-1), 1) := dk_2 (dk_at dksX6_actAt_2 20 rfl rfl)
theorem dX6_actAt_66 : decode cX6_actAt 66 = .ok (.ireturn, 1) := dk_172 (dk_at dksX6_actAt_2 21 rfl rfl)
abbrev cX6_readAct : ByteArray := prog_16_method_28_code
def yX6_readAct : MethodName := ⟨RX6, "readAct", "(II)Z"⟩
def dkwX6_readAct_4 : List UInt8 := [6, 182, 0, 49, 172, 42, 180, 0, 207, 27, 5, 96, 42, 180, 0, 56, 79, 42, 182, 0, 63, 4, 172]
abbrev dktX6_readAct_4 : List UInt8 := dkwX6_readAct_4 ++ []
def dkwX6_readAct_3 : List UInt8 := [182, 0, 210, 154, 0, 5, 3, 172, 42, 180, 0, 56, 42, 180, 0, 207, 27, 4, 96, 46, 160, 0, 9, 42]
abbrev dktX6_readAct_3 : List UInt8 := dkwX6_readAct_3 ++ dktX6_readAct_4
def dkwX6_readAct_2 : List UInt8 := [180, 0, 207, 27, 4, 96, 42, 180, 0, 56, 79, 42, 182, 0, 63, 28, 153, 0, 5, 4, 172, 42]
abbrev dktX6_readAct_2 : List UInt8 := dkwX6_readAct_2 ++ dktX6_readAct_3
def dkwX6_readAct_1 : List UInt8 := [27, 5, 96, 2, 79, 28, 6, 164, 0, 5, 4, 172, 42, 182, 0, 210, 154, 0, 5, 3, 172, 42]
abbrev dktX6_readAct_1 : List UInt8 := dkwX6_readAct_1 ++ dktX6_readAct_2
def dkwX6_readAct_0 : List UInt8 := [42, 182, 0, 63, 42, 180, 0, 207, 27, 28, 79, 42, 180, 0, 207, 27, 4, 96, 2, 79, 42, 180, 0, 207]
abbrev dktX6_readAct_0 : List UInt8 := dkwX6_readAct_0 ++ dktX6_readAct_1
theorem dksX6_readAct_0 : cX6_readAct.data.toList.drop 0 = dktX6_readAct_0 := by decide +kernel
theorem dksX6_readAct_1 : cX6_readAct.data.toList.drop 24 = dktX6_readAct_1 := dk_seg dksX6_readAct_0 24 rfl rfl
theorem dksX6_readAct_2 : cX6_readAct.data.toList.drop 46 = dktX6_readAct_2 := dk_seg dksX6_readAct_1 22 rfl rfl
theorem dksX6_readAct_3 : cX6_readAct.data.toList.drop 68 = dktX6_readAct_3 := dk_seg dksX6_readAct_2 22 rfl rfl
theorem dksX6_readAct_4 : cX6_readAct.data.toList.drop 92 = dktX6_readAct_4 := dk_seg dksX6_readAct_3 24 rfl rfl
theorem dX6_readAct_0 : decode cX6_readAct 0 = .ok (.aload_n 0, 1) := dk_42 (dk_at dksX6_readAct_0 0 rfl rfl)
theorem dX6_readAct_1 : decode cX6_readAct 1 = .ok (.invokevirtual 63, 3) := dk_182 0 63 (dk_at dksX6_readAct_0 1 rfl rfl)
theorem dX6_readAct_4 : decode cX6_readAct 4 = .ok (.aload_n 0, 1) := dk_42 (dk_at dksX6_readAct_0 4 rfl rfl)
theorem dX6_readAct_5 : decode cX6_readAct 5 = .ok (.getfield 207, 3) := dk_180 0 207 (dk_at dksX6_readAct_0 5 rfl rfl)
theorem dX6_readAct_8 : decode cX6_readAct 8 = .ok (.iload_n 1, 1) := dk_27 (dk_at dksX6_readAct_0 8 rfl rfl)
theorem dX6_readAct_9 : decode cX6_readAct 9 = .ok (.iload_n 2, 1) := dk_28 (dk_at dksX6_readAct_0 9 rfl rfl)
theorem dX6_readAct_10 : decode cX6_readAct 10 = .ok (.iastore, 1) := dk_79 (dk_at dksX6_readAct_0 10 rfl rfl)
theorem dX6_readAct_11 : decode cX6_readAct 11 = .ok (.aload_n 0, 1) := dk_42 (dk_at dksX6_readAct_0 11 rfl rfl)
theorem dX6_readAct_12 : decode cX6_readAct 12 = .ok (.getfield 207, 3) := dk_180 0 207 (dk_at dksX6_readAct_0 12 rfl rfl)
theorem dX6_readAct_15 : decode cX6_readAct 15 = .ok (.iload_n 1, 1) := dk_27 (dk_at dksX6_readAct_0 15 rfl rfl)
theorem dX6_readAct_16 : decode cX6_readAct 16 = .ok (.iconst 1, 1) := dk_4 (dk_at dksX6_readAct_0 16 rfl rfl)
theorem dX6_readAct_17 : decode cX6_readAct 17 = .ok (.iadd, 1) := dk_96 (dk_at dksX6_readAct_0 17 rfl rfl)
theorem dX6_readAct_18 : decode cX6_readAct 18 = .ok (.iconst (-1), 1) := dk_2 (dk_at dksX6_readAct_0 18 rfl rfl)
theorem dX6_readAct_19 : decode cX6_readAct 19 = .ok (.iastore, 1) := dk_79 (dk_at dksX6_readAct_0 19 rfl rfl)
theorem dX6_readAct_20 : decode cX6_readAct 20 = .ok (.aload_n 0, 1) := dk_42 (dk_at dksX6_readAct_0 20 rfl rfl)
theorem dX6_readAct_21 : decode cX6_readAct 21 = .ok (.getfield 207, 3) := dk_180 0 207 (dk_at dksX6_readAct_0 21 rfl rfl)
theorem dX6_readAct_24 : decode cX6_readAct 24 = .ok (.iload_n 1, 1) := dk_27 (dk_at dksX6_readAct_1 0 rfl rfl)
theorem dX6_readAct_25 : decode cX6_readAct 25 = .ok (.iconst 2, 1) := dk_5 (dk_at dksX6_readAct_1 1 rfl rfl)
theorem dX6_readAct_26 : decode cX6_readAct 26 = .ok (.iadd, 1) := dk_96 (dk_at dksX6_readAct_1 2 rfl rfl)
theorem dX6_readAct_27 : decode cX6_readAct 27 = .ok (.iconst (-1), 1) := dk_2 (dk_at dksX6_readAct_1 3 rfl rfl)
theorem dX6_readAct_28 : decode cX6_readAct 28 = .ok (.iastore, 1) := dk_79 (dk_at dksX6_readAct_1 4 rfl rfl)
theorem dX6_readAct_29 : decode cX6_readAct 29 = .ok (.iload_n 2, 1) := dk_28 (dk_at dksX6_readAct_1 5 rfl rfl)
theorem dX6_readAct_30 : decode cX6_readAct 30 = .ok (.iconst 3, 1) := dk_6 (dk_at dksX6_readAct_1 6 rfl rfl)
theorem dX6_readAct_31 : decode cX6_readAct 31 = .ok (.if_icmp .le 5, 3) := dk_164 0 5 (dk_at dksX6_readAct_1 7 rfl rfl)
theorem dX6_readAct_34 : decode cX6_readAct 34 = .ok (.iconst 1, 1) := dk_4 (dk_at dksX6_readAct_1 10 rfl rfl)
theorem dX6_readAct_35 : decode cX6_readAct 35 = .ok (.ireturn, 1) := dk_172 (dk_at dksX6_readAct_1 11 rfl rfl)
theorem dX6_readAct_36 : decode cX6_readAct 36 = .ok (.aload_n 0, 1) := dk_42 (dk_at dksX6_readAct_1 12 rfl rfl)
theorem dX6_readAct_37 : decode cX6_readAct 37 = .ok (.invokevirtual 210, 3) := dk_182 0 210 (dk_at dksX6_readAct_1 13 rfl rfl)
theorem dX6_readAct_40 : decode cX6_readAct 40 = .ok (.ifCond .ne 5, 3) := dk_154 0 5 (dk_at dksX6_readAct_1 16 rfl rfl)
theorem dX6_readAct_43 : decode cX6_readAct 43 = .ok (.iconst 0, 1) := dk_3 (dk_at dksX6_readAct_1 19 rfl rfl)
theorem dX6_readAct_44 : decode cX6_readAct 44 = .ok (.ireturn, 1) := dk_172 (dk_at dksX6_readAct_1 20 rfl rfl)
theorem dX6_readAct_45 : decode cX6_readAct 45 = .ok (.aload_n 0, 1) := dk_42 (dk_at dksX6_readAct_1 21 rfl rfl)
theorem dX6_readAct_46 : decode cX6_readAct 46 = .ok (.getfield 207, 3) := dk_180 0 207 (dk_at dksX6_readAct_2 0 rfl rfl)
theorem dX6_readAct_49 : decode cX6_readAct 49 = .ok (.iload_n 1, 1) := dk_27 (dk_at dksX6_readAct_2 3 rfl rfl)
theorem dX6_readAct_50 : decode cX6_readAct 50 = .ok (.iconst 1, 1) := dk_4 (dk_at dksX6_readAct_2 4 rfl rfl)
theorem dX6_readAct_51 : decode cX6_readAct 51 = .ok (.iadd, 1) := dk_96 (dk_at dksX6_readAct_2 5 rfl rfl)
theorem dX6_readAct_52 : decode cX6_readAct 52 = .ok (.aload_n 0, 1) := dk_42 (dk_at dksX6_readAct_2 6 rfl rfl)
theorem dX6_readAct_53 : decode cX6_readAct 53 = .ok (.getfield 56, 3) := dk_180 0 56 (dk_at dksX6_readAct_2 7 rfl rfl)
theorem dX6_readAct_56 : decode cX6_readAct 56 = .ok (.iastore, 1) := dk_79 (dk_at dksX6_readAct_2 10 rfl rfl)
theorem dX6_readAct_57 : decode cX6_readAct 57 = .ok (.aload_n 0, 1) := dk_42 (dk_at dksX6_readAct_2 11 rfl rfl)
theorem dX6_readAct_58 : decode cX6_readAct 58 = .ok (.invokevirtual 63, 3) := dk_182 0 63 (dk_at dksX6_readAct_2 12 rfl rfl)
theorem dX6_readAct_61 : decode cX6_readAct 61 = .ok (.iload_n 2, 1) := dk_28 (dk_at dksX6_readAct_2 15 rfl rfl)
theorem dX6_readAct_62 : decode cX6_readAct 62 = .ok (.ifCond .eq 5, 3) := dk_153 0 5 (dk_at dksX6_readAct_2 16 rfl rfl)
theorem dX6_readAct_65 : decode cX6_readAct 65 = .ok (.iconst 1, 1) := dk_4 (dk_at dksX6_readAct_2 19 rfl rfl)
theorem dX6_readAct_66 : decode cX6_readAct 66 = .ok (.ireturn, 1) := dk_172 (dk_at dksX6_readAct_2 20 rfl rfl)
theorem dX6_readAct_67 : decode cX6_readAct 67 = .ok (.aload_n 0, 1) := dk_42 (dk_at dksX6_readAct_2 21 rfl rfl)
theorem dX6_readAct_68 : decode cX6_readAct 68 = .ok (.invokevirtual 210, 3) := dk_182 0 210 (dk_at dksX6_readAct_3 0 rfl rfl)
theorem dX6_readAct_71 : decode cX6_readAct 71 = .ok (.ifCond .ne 5, 3) := dk_154 0 5 (dk_at dksX6_readAct_3 3 rfl rfl)
theorem dX6_readAct_74 : decode cX6_readAct 74 = .ok (.iconst 0, 1) := dk_3 (dk_at dksX6_readAct_3 6 rfl rfl)
theorem dX6_readAct_75 : decode cX6_readAct 75 = .ok (.ireturn, 1) := dk_172 (dk_at dksX6_readAct_3 7 rfl rfl)
theorem dX6_readAct_76 : decode cX6_readAct 76 = .ok (.aload_n 0, 1) := dk_42 (dk_at dksX6_readAct_3 8 rfl rfl)
theorem dX6_readAct_77 : decode cX6_readAct 77 = .ok (.getfield 56, 3) := dk_180 0 56 (dk_at dksX6_readAct_3 9 rfl rfl)
theorem dX6_readAct_80 : decode cX6_readAct 80 = .ok (.aload_n 0, 1) := dk_42 (dk_at dksX6_readAct_3 12 rfl rfl)
theorem dX6_readAct_81 : decode cX6_readAct 81 = .ok (.getfield 207, 3) := dk_180 0 207 (dk_at dksX6_readAct_3 13 rfl rfl)
theorem dX6_readAct_84 : decode cX6_readAct 84 = .ok (.iload_n 1, 1) := dk_27 (dk_at dksX6_readAct_3 16 rfl rfl)
theorem dX6_readAct_85 : decode cX6_readAct 85 = .ok (.iconst 1, 1) := dk_4 (dk_at dksX6_readAct_3 17 rfl rfl)
theorem dX6_readAct_86 : decode cX6_readAct 86 = .ok (.iadd, 1) := dk_96 (dk_at dksX6_readAct_3 18 rfl rfl)
theorem dX6_readAct_87 : decode cX6_readAct 87 = .ok (.iaload, 1) := dk_46 (dk_at dksX6_readAct_3 19 rfl rfl)
theorem dX6_readAct_88 : decode cX6_readAct 88 = .ok (.if_icmp .ne 9, 3) := dk_160 0 9 (dk_at dksX6_readAct_3 20 rfl rfl)
theorem dX6_readAct_91 : decode cX6_readAct 91 = .ok (.aload_n 0, 1) := dk_42 (dk_at dksX6_readAct_3 23 rfl rfl)
theorem dX6_readAct_92 : decode cX6_readAct 92 = .ok (.iconst 3, 1) := dk_6 (dk_at dksX6_readAct_4 0 rfl rfl)
theorem dX6_readAct_93 : decode cX6_readAct 93 = .ok (.invokevirtual 49, 3) := dk_182 0 49 (dk_at dksX6_readAct_4 1 rfl rfl)
theorem dX6_readAct_96 : decode cX6_readAct 96 = .ok (.ireturn, 1) := dk_172 (dk_at dksX6_readAct_4 4 rfl rfl)
theorem dX6_readAct_97 : decode cX6_readAct 97 = .ok (.aload_n 0, 1) := dk_42 (dk_at dksX6_readAct_4 5 rfl rfl)
theorem dX6_readAct_98 : decode cX6_readAct 98 = .ok (.getfield 207, 3) := dk_180 0 207 (dk_at dksX6_readAct_4 6 rfl rfl)
theorem dX6_readAct_101 : decode cX6_readAct 101 = .ok (.iload_n 1, 1) := dk_27 (dk_at dksX6_readAct_4 9 rfl rfl)
theorem dX6_readAct_102 : decode cX6_readAct 102 = .ok (.iconst 2, 1) := dk_5 (dk_at dksX6_readAct_4 10 rfl rfl)
theorem dX6_readAct_103 : decode cX6_readAct 103 = .ok (.iadd, 1) := dk_96 (dk_at dksX6_readAct_4 11 rfl rfl)
theorem dX6_readAct_104 : decode cX6_readAct 104 = .ok (.aload_n 0, 1) := dk_42 (dk_at dksX6_readAct_4 12 rfl rfl)
theorem dX6_readAct_105 : decode cX6_readAct 105 = .ok (.getfield 56, 3) := dk_180 0 56 (dk_at dksX6_readAct_4 13 rfl rfl)
theorem dX6_readAct_108 : decode cX6_readAct 108 = .ok (.iastore, 1) := dk_79 (dk_at dksX6_readAct_4 16 rfl rfl)
theorem dX6_readAct_109 : decode cX6_readAct 109 = .ok (.aload_n 0, 1) := dk_42 (dk_at dksX6_readAct_4 17 rfl rfl)
theorem dX6_readAct_110 : decode cX6_readAct 110 = .ok (.invokevirtual 63, 3) := dk_182 0 63 (dk_at dksX6_readAct_4 18 rfl rfl)
theorem dX6_readAct_113 : decode cX6_readAct 113 = .ok (.iconst 1, 1) := dk_4 (dk_at dksX6_readAct_4 21 rfl rfl)
theorem dX6_readAct_114 : decode cX6_readAct 114 = .ok (.ireturn, 1) := dk_172 (dk_at dksX6_readAct_4 22 rfl rfl)
abbrev cX6_readCell : ByteArray := prog_16_method_27_code
def yX6_readCell : MethodName := ⟨RX6, "readCell", "()Z"⟩
def dkwX6_readCell_1 : List UInt8 := [180, 0, 204, 182, 0, 79, 154, 0, 5, 3, 172, 4, 172]
abbrev dktX6_readCell_1 : List UInt8 := dkwX6_readCell_1 ++ []
def dkwX6_readCell_0 : List UInt8 := [42, 3, 42, 180, 0, 201, 4, 100, 182, 0, 70, 153, 0, 22, 42, 42, 180, 0, 56, 42, 180, 0, 201, 42]
abbrev dktX6_readCell_0 : List UInt8 := dkwX6_readCell_0 ++ dktX6_readCell_1
theorem dksX6_readCell_0 : cX6_readCell.data.toList.drop 0 = dktX6_readCell_0 := by decide +kernel
theorem dksX6_readCell_1 : cX6_readCell.data.toList.drop 24 = dktX6_readCell_1 := dk_seg dksX6_readCell_0 24 rfl rfl
theorem dX6_readCell_0 : decode cX6_readCell 0 = .ok (.aload_n 0, 1) := dk_42 (dk_at dksX6_readCell_0 0 rfl rfl)
theorem dX6_readCell_1 : decode cX6_readCell 1 = .ok (.iconst 0, 1) := dk_3 (dk_at dksX6_readCell_0 1 rfl rfl)
theorem dX6_readCell_2 : decode cX6_readCell 2 = .ok (.aload_n 0, 1) := dk_42 (dk_at dksX6_readCell_0 2 rfl rfl)
theorem dX6_readCell_3 : decode cX6_readCell 3 = .ok (.getfield 201, 3) := dk_180 0 201 (dk_at dksX6_readCell_0 3 rfl rfl)
theorem dX6_readCell_6 : decode cX6_readCell 6 = .ok (.iconst 1, 1) := dk_4 (dk_at dksX6_readCell_0 6 rfl rfl)
theorem dX6_readCell_7 : decode cX6_readCell 7 = .ok (.isub, 1) := dk_100 (dk_at dksX6_readCell_0 7 rfl rfl)
theorem dX6_readCell_8 : decode cX6_readCell 8 = .ok (.invokevirtual 70, 3) := dk_182 0 70 (dk_at dksX6_readCell_0 8 rfl rfl)
theorem dX6_readCell_11 : decode cX6_readCell 11 = .ok (.ifCond .eq 22, 3) := dk_153 0 22 (dk_at dksX6_readCell_0 11 rfl rfl)
theorem dX6_readCell_14 : decode cX6_readCell 14 = .ok (.aload_n 0, 1) := dk_42 (dk_at dksX6_readCell_0 14 rfl rfl)
theorem dX6_readCell_15 : decode cX6_readCell 15 = .ok (.aload_n 0, 1) := dk_42 (dk_at dksX6_readCell_0 15 rfl rfl)
theorem dX6_readCell_16 : decode cX6_readCell 16 = .ok (.getfield 56, 3) := dk_180 0 56 (dk_at dksX6_readCell_0 16 rfl rfl)
theorem dX6_readCell_19 : decode cX6_readCell 19 = .ok (.aload_n 0, 1) := dk_42 (dk_at dksX6_readCell_0 19 rfl rfl)
theorem dX6_readCell_20 : decode cX6_readCell 20 = .ok (.getfield 201, 3) := dk_180 0 201 (dk_at dksX6_readCell_0 20 rfl rfl)
theorem dX6_readCell_23 : decode cX6_readCell 23 = .ok (.aload_n 0, 1) := dk_42 (dk_at dksX6_readCell_0 23 rfl rfl)
theorem dX6_readCell_24 : decode cX6_readCell 24 = .ok (.getfield 204, 3) := dk_180 0 204 (dk_at dksX6_readCell_1 0 rfl rfl)
theorem dX6_readCell_27 : decode cX6_readCell 27 = .ok (.invokevirtual 79, 3) := dk_182 0 79 (dk_at dksX6_readCell_1 3 rfl rfl)
theorem dX6_readCell_30 : decode cX6_readCell 30 = .ok (.ifCond .ne 5, 3) := dk_154 0 5 (dk_at dksX6_readCell_1 6 rfl rfl)
theorem dX6_readCell_33 : decode cX6_readCell 33 = .ok (.iconst 0, 1) := dk_3 (dk_at dksX6_readCell_1 9 rfl rfl)
theorem dX6_readCell_34 : decode cX6_readCell 34 = .ok (.ireturn, 1) := dk_172 (dk_at dksX6_readCell_1 10 rfl rfl)
theorem dX6_readCell_35 : decode cX6_readCell 35 = .ok (.iconst 1, 1) := dk_4 (dk_at dksX6_readCell_1 11 rfl rfl)
theorem dX6_readCell_36 : decode cX6_readCell 36 = .ok (.ireturn, 1) := dk_172 (dk_at dksX6_readCell_1 12 rfl rfl)
abbrev cX6_fault : ByteArray := prog_16_method_41_code
def yX6_fault : MethodName := ⟨RX6, "fault", "(I)I"⟩
def dkwX6_fault_1 : List UInt8 := [172]
abbrev dktX6_fault_1 : List UInt8 := dkwX6_fault_1 ++ []
def dkwX6_fault_0 : List UInt8 := [27, 154, 0, 10, 42, 180, 0, 1, 167, 0, 16, 27, 4, 160, 0, 10, 42, 180, 0, 10, 167, 0, 4, 2]
abbrev dktX6_fault_0 : List UInt8 := dkwX6_fault_0 ++ dktX6_fault_1
theorem dksX6_fault_0 : cX6_fault.data.toList.drop 0 = dktX6_fault_0 := by decide +kernel
theorem dksX6_fault_1 : cX6_fault.data.toList.drop 24 = dktX6_fault_1 := dk_seg dksX6_fault_0 24 rfl rfl
theorem dX6_fault_0 : decode cX6_fault 0 = .ok (.iload_n 1, 1) := dk_27 (dk_at dksX6_fault_0 0 rfl rfl)
theorem dX6_fault_1 : decode cX6_fault 1 = .ok (.ifCond .ne 10, 3) := dk_154 0 10 (dk_at dksX6_fault_0 1 rfl rfl)
theorem dX6_fault_4 : decode cX6_fault 4 = .ok (.aload_n 0, 1) := dk_42 (dk_at dksX6_fault_0 4 rfl rfl)
theorem dX6_fault_5 : decode cX6_fault 5 = .ok (.getfield 1, 3) := dk_180 0 1 (dk_at dksX6_fault_0 5 rfl rfl)
theorem dX6_fault_8 : decode cX6_fault 8 = .ok (.goto 16, 3) := dk_167 0 16 (dk_at dksX6_fault_0 8 rfl rfl)
theorem dX6_fault_11 : decode cX6_fault 11 = .ok (.iload_n 1, 1) := dk_27 (dk_at dksX6_fault_0 11 rfl rfl)
theorem dX6_fault_12 : decode cX6_fault 12 = .ok (.iconst 1, 1) := dk_4 (dk_at dksX6_fault_0 12 rfl rfl)
theorem dX6_fault_13 : decode cX6_fault 13 = .ok (.if_icmp .ne 10, 3) := dk_160 0 10 (dk_at dksX6_fault_0 13 rfl rfl)
theorem dX6_fault_16 : decode cX6_fault 16 = .ok (.aload_n 0, 1) := dk_42 (dk_at dksX6_fault_0 16 rfl rfl)
theorem dX6_fault_17 : decode cX6_fault 17 = .ok (.getfield 10, 3) := dk_180 0 10 (dk_at dksX6_fault_0 17 rfl rfl)
theorem dX6_fault_20 : decode cX6_fault 20 = .ok (.goto 4, 3) := dk_167 0 4 (dk_at dksX6_fault_0 20 rfl rfl)
theorem dX6_fault_23 : decode cX6_fault 23 = .ok (.iconst (-1), 1) := dk_2 (dk_at dksX6_fault_0 23 rfl rfl)
theorem dX6_fault_24 : decode cX6_fault 24 = .ok (.ireturn, 1) := dk_172 (dk_at dksX6_fault_1 0 rfl rfl)
abbrev cX6_told : ByteArray := prog_16_method_42_code
def yX6_told : MethodName := ⟨RX6, "told", "(I)I"⟩
def dkwX6_told_5 : List UInt8 := [42, 180, 1, 8, 172, 42, 180, 0, 225, 172, 42, 180, 1, 13, 17, 1, 19, 46, 172, 2, 172]
abbrev dktX6_told_5 : List UInt8 := dkwX6_told_5 ++ []
def dkwX6_told_4 : List UInt8 := [3, 46, 172, 42, 180, 1, 4, 4, 46, 172, 42, 180, 1, 6, 3, 46, 172, 42, 180, 1, 6, 4, 46, 172]
abbrev dktX6_told_4 : List UInt8 := dkwX6_told_4 ++ dktX6_told_5
def dkwX6_told_3 : List UInt8 := [42, 180, 0, 201, 172, 42, 180, 0, 204, 172, 42, 180, 1, 55, 172, 42, 180, 1, 78, 172, 42, 180, 1, 4]
abbrev dktX6_told_3 : List UInt8 := dkwX6_told_3 ++ dktX6_told_4
def dkwX6_told_2 : List UInt8 := [170, 0, 0, 0, 0, 0, 0, 179, 0, 0, 0, 0, 0, 0, 0, 23, 0, 0, 0, 112, 0, 0, 0, 117, 0, 0, 0, 179, 0, 0, 0, 179, 0, 0, 0, 179, 0, 0, 0, 179, 0, 0, 0, 179, 0, 0, 0, 179, 0, 0, 0, 179, 0, 0, 0, 179, 0, 0, 0, 179, 0, 0, 0, 122, 0, 0, 0, 127, 0, 0, 0, 179, 0, 0, 0, 179, 0, 0, 0, 179, 0, 0, 0, 179, 0, 0, 0, 132, 0, 0, 0, 139, 0, 0, 0, 146, 0, 0, 0, 153, 0, 0, 0, 160, 0, 0, 0, 165, 0, 0, 0, 170]
abbrev dktX6_told_2 : List UInt8 := dkwX6_told_2 ++ dktX6_told_3
def dkwX6_told_1 : List UInt8 := [133, 20, 1, 91, 20, 1, 93, 184, 0, 52, 153, 0, 13, 42, 180, 1, 2, 27, 16, 13, 100, 46, 172, 27]
abbrev dktX6_told_1 : List UInt8 := dkwX6_told_1 ++ dktX6_told_2
def dkwX6_told_0 : List UInt8 := [27, 133, 20, 1, 87, 20, 1, 89, 184, 0, 52, 153, 0, 12, 42, 180, 0, 245, 27, 5, 100, 46, 172, 27]
abbrev dktX6_told_0 : List UInt8 := dkwX6_told_0 ++ dktX6_told_1
theorem dksX6_told_0 : cX6_told.data.toList.drop 0 = dktX6_told_0 := by decide +kernel
theorem dksX6_told_1 : cX6_told.data.toList.drop 24 = dktX6_told_1 := dk_seg dksX6_told_0 24 rfl rfl
theorem dksX6_told_2 : cX6_told.data.toList.drop 48 = dktX6_told_2 := dk_seg dksX6_told_1 24 rfl rfl
theorem dksX6_told_3 : cX6_told.data.toList.drop 160 = dktX6_told_3 := dk_seg dksX6_told_2 112 rfl rfl
theorem dksX6_told_4 : cX6_told.data.toList.drop 184 = dktX6_told_4 := dk_seg dksX6_told_3 24 rfl rfl
theorem dksX6_told_5 : cX6_told.data.toList.drop 208 = dktX6_told_5 := dk_seg dksX6_told_4 24 rfl rfl
theorem dX6_told_0 : decode cX6_told 0 = .ok (.iload_n 1, 1) := dk_27 (dk_at dksX6_told_0 0 rfl rfl)
theorem dX6_told_1 : decode cX6_told 1 = .ok (.i2l, 1) := dk_133 (dk_at dksX6_told_0 1 rfl rfl)
theorem dX6_told_2 : decode cX6_told 2 = .ok (.ldc2_w 343, 3) := dk_20 1 87 (dk_at dksX6_told_0 2 rfl rfl)
theorem dX6_told_5 : decode cX6_told 5 = .ok (.ldc2_w 345, 3) := dk_20 1 89 (dk_at dksX6_told_0 5 rfl rfl)
theorem dX6_told_8 : decode cX6_told 8 = .ok (.invokestatic 52, 3) := dk_184 0 52 (dk_at dksX6_told_0 8 rfl rfl)
theorem dX6_told_11 : decode cX6_told 11 = .ok (.ifCond .eq 12, 3) := dk_153 0 12 (dk_at dksX6_told_0 11 rfl rfl)
theorem dX6_told_14 : decode cX6_told 14 = .ok (.aload_n 0, 1) := dk_42 (dk_at dksX6_told_0 14 rfl rfl)
theorem dX6_told_15 : decode cX6_told 15 = .ok (.getfield 245, 3) := dk_180 0 245 (dk_at dksX6_told_0 15 rfl rfl)
theorem dX6_told_18 : decode cX6_told 18 = .ok (.iload_n 1, 1) := dk_27 (dk_at dksX6_told_0 18 rfl rfl)
theorem dX6_told_19 : decode cX6_told 19 = .ok (.iconst 2, 1) := dk_5 (dk_at dksX6_told_0 19 rfl rfl)
theorem dX6_told_20 : decode cX6_told 20 = .ok (.isub, 1) := dk_100 (dk_at dksX6_told_0 20 rfl rfl)
theorem dX6_told_21 : decode cX6_told 21 = .ok (.iaload, 1) := dk_46 (dk_at dksX6_told_0 21 rfl rfl)
theorem dX6_told_22 : decode cX6_told 22 = .ok (.ireturn, 1) := dk_172 (dk_at dksX6_told_0 22 rfl rfl)
theorem dX6_told_23 : decode cX6_told 23 = .ok (.iload_n 1, 1) := dk_27 (dk_at dksX6_told_0 23 rfl rfl)
theorem dX6_told_24 : decode cX6_told 24 = .ok (.i2l, 1) := dk_133 (dk_at dksX6_told_1 0 rfl rfl)
theorem dX6_told_25 : decode cX6_told 25 = .ok (.ldc2_w 347, 3) := dk_20 1 91 (dk_at dksX6_told_1 1 rfl rfl)
theorem dX6_told_28 : decode cX6_told 28 = .ok (.ldc2_w 349, 3) := dk_20 1 93 (dk_at dksX6_told_1 4 rfl rfl)
theorem dX6_told_31 : decode cX6_told 31 = .ok (.invokestatic 52, 3) := dk_184 0 52 (dk_at dksX6_told_1 7 rfl rfl)
theorem dX6_told_34 : decode cX6_told 34 = .ok (.ifCond .eq 13, 3) := dk_153 0 13 (dk_at dksX6_told_1 10 rfl rfl)
theorem dX6_told_37 : decode cX6_told 37 = .ok (.aload_n 0, 1) := dk_42 (dk_at dksX6_told_1 13 rfl rfl)
theorem dX6_told_38 : decode cX6_told 38 = .ok (.getfield 258, 3) := dk_180 1 2 (dk_at dksX6_told_1 14 rfl rfl)
theorem dX6_told_41 : decode cX6_told 41 = .ok (.iload_n 1, 1) := dk_27 (dk_at dksX6_told_1 17 rfl rfl)
theorem dX6_told_42 : decode cX6_told 42 = .ok (.bipush 13, 2) := dk_16 13 (dk_at dksX6_told_1 18 rfl rfl)
theorem dX6_told_44 : decode cX6_told 44 = .ok (.isub, 1) := dk_100 (dk_at dksX6_told_1 20 rfl rfl)
theorem dX6_told_45 : decode cX6_told 45 = .ok (.iaload, 1) := dk_46 (dk_at dksX6_told_1 21 rfl rfl)
theorem dX6_told_46 : decode cX6_told 46 = .ok (.ireturn, 1) := dk_172 (dk_at dksX6_told_1 22 rfl rfl)
theorem dX6_told_47 : decode cX6_told 47 = .ok (.iload_n 1, 1) := dk_27 (dk_at dksX6_told_1 23 rfl rfl)
theorem dX6_told_48 : decode cX6_told 48 = .ok (.tableswitch 179 0 23 #[112, 117, 179, 179, 179, 179, 179, 179, 179, 179, 179, 122, 127, 179, 179, 179, 179, 132, 139, 146, 153, 160, 165, 170], 112) := by decide +kernel
theorem dX6_told_160 : decode cX6_told 160 = .ok (.aload_n 0, 1) := dk_42 (dk_at dksX6_told_3 0 rfl rfl)
theorem dX6_told_161 : decode cX6_told 161 = .ok (.getfield 201, 3) := dk_180 0 201 (dk_at dksX6_told_3 1 rfl rfl)
theorem dX6_told_164 : decode cX6_told 164 = .ok (.ireturn, 1) := dk_172 (dk_at dksX6_told_3 4 rfl rfl)
theorem dX6_told_165 : decode cX6_told 165 = .ok (.aload_n 0, 1) := dk_42 (dk_at dksX6_told_3 5 rfl rfl)
theorem dX6_told_166 : decode cX6_told 166 = .ok (.getfield 204, 3) := dk_180 0 204 (dk_at dksX6_told_3 6 rfl rfl)
theorem dX6_told_169 : decode cX6_told 169 = .ok (.ireturn, 1) := dk_172 (dk_at dksX6_told_3 9 rfl rfl)
theorem dX6_told_170 : decode cX6_told 170 = .ok (.aload_n 0, 1) := dk_42 (dk_at dksX6_told_3 10 rfl rfl)
theorem dX6_told_171 : decode cX6_told 171 = .ok (.getfield 311, 3) := dk_180 1 55 (dk_at dksX6_told_3 11 rfl rfl)
theorem dX6_told_174 : decode cX6_told 174 = .ok (.ireturn, 1) := dk_172 (dk_at dksX6_told_3 14 rfl rfl)
theorem dX6_told_175 : decode cX6_told 175 = .ok (.aload_n 0, 1) := dk_42 (dk_at dksX6_told_3 15 rfl rfl)
theorem dX6_told_176 : decode cX6_told 176 = .ok (.getfield 334, 3) := dk_180 1 78 (dk_at dksX6_told_3 16 rfl rfl)
theorem dX6_told_179 : decode cX6_told 179 = .ok (.ireturn, 1) := dk_172 (dk_at dksX6_told_3 19 rfl rfl)
theorem dX6_told_180 : decode cX6_told 180 = .ok (.aload_n 0, 1) := dk_42 (dk_at dksX6_told_3 20 rfl rfl)
theorem dX6_told_181 : decode cX6_told 181 = .ok (.getfield 260, 3) := dk_180 1 4 (dk_at dksX6_told_3 21 rfl rfl)
theorem dX6_told_184 : decode cX6_told 184 = .ok (.iconst 0, 1) := dk_3 (dk_at dksX6_told_4 0 rfl rfl)
theorem dX6_told_185 : decode cX6_told 185 = .ok (.iaload, 1) := dk_46 (dk_at dksX6_told_4 1 rfl rfl)
theorem dX6_told_186 : decode cX6_told 186 = .ok (.ireturn, 1) := dk_172 (dk_at dksX6_told_4 2 rfl rfl)
theorem dX6_told_187 : decode cX6_told 187 = .ok (.aload_n 0, 1) := dk_42 (dk_at dksX6_told_4 3 rfl rfl)
theorem dX6_told_188 : decode cX6_told 188 = .ok (.getfield 260, 3) := dk_180 1 4 (dk_at dksX6_told_4 4 rfl rfl)
theorem dX6_told_191 : decode cX6_told 191 = .ok (.iconst 1, 1) := dk_4 (dk_at dksX6_told_4 7 rfl rfl)
theorem dX6_told_192 : decode cX6_told 192 = .ok (.iaload, 1) := dk_46 (dk_at dksX6_told_4 8 rfl rfl)
theorem dX6_told_193 : decode cX6_told 193 = .ok (.ireturn, 1) := dk_172 (dk_at dksX6_told_4 9 rfl rfl)
theorem dX6_told_194 : decode cX6_told 194 = .ok (.aload_n 0, 1) := dk_42 (dk_at dksX6_told_4 10 rfl rfl)
theorem dX6_told_195 : decode cX6_told 195 = .ok (.getfield 262, 3) := dk_180 1 6 (dk_at dksX6_told_4 11 rfl rfl)
theorem dX6_told_198 : decode cX6_told 198 = .ok (.iconst 0, 1) := dk_3 (dk_at dksX6_told_4 14 rfl rfl)
theorem dX6_told_199 : decode cX6_told 199 = .ok (.iaload, 1) := dk_46 (dk_at dksX6_told_4 15 rfl rfl)
theorem dX6_told_200 : decode cX6_told 200 = .ok (.ireturn, 1) := dk_172 (dk_at dksX6_told_4 16 rfl rfl)
theorem dX6_told_201 : decode cX6_told 201 = .ok (.aload_n 0, 1) := dk_42 (dk_at dksX6_told_4 17 rfl rfl)
theorem dX6_told_202 : decode cX6_told 202 = .ok (.getfield 262, 3) := dk_180 1 6 (dk_at dksX6_told_4 18 rfl rfl)
theorem dX6_told_205 : decode cX6_told 205 = .ok (.iconst 1, 1) := dk_4 (dk_at dksX6_told_4 21 rfl rfl)
theorem dX6_told_206 : decode cX6_told 206 = .ok (.iaload, 1) := dk_46 (dk_at dksX6_told_4 22 rfl rfl)
theorem dX6_told_207 : decode cX6_told 207 = .ok (.ireturn, 1) := dk_172 (dk_at dksX6_told_4 23 rfl rfl)
theorem dX6_told_208 : decode cX6_told 208 = .ok (.aload_n 0, 1) := dk_42 (dk_at dksX6_told_5 0 rfl rfl)
theorem dX6_told_209 : decode cX6_told 209 = .ok (.getfield 264, 3) := dk_180 1 8 (dk_at dksX6_told_5 1 rfl rfl)
theorem dX6_told_212 : decode cX6_told 212 = .ok (.ireturn, 1) := dk_172 (dk_at dksX6_told_5 4 rfl rfl)
theorem dX6_told_213 : decode cX6_told 213 = .ok (.aload_n 0, 1) := dk_42 (dk_at dksX6_told_5 5 rfl rfl)
theorem dX6_told_214 : decode cX6_told 214 = .ok (.getfield 225, 3) := dk_180 0 225 (dk_at dksX6_told_5 6 rfl rfl)
theorem dX6_told_217 : decode cX6_told 217 = .ok (.ireturn, 1) := dk_172 (dk_at dksX6_told_5 9 rfl rfl)
theorem dX6_told_218 : decode cX6_told 218 = .ok (.aload_n 0, 1) := dk_42 (dk_at dksX6_told_5 10 rfl rfl)
theorem dX6_told_219 : decode cX6_told 219 = .ok (.getfield 269, 3) := dk_180 1 13 (dk_at dksX6_told_5 11 rfl rfl)
theorem dX6_told_222 : decode cX6_told 222 = .ok (.sipush 275, 3) := dk_17 1 19 (dk_at dksX6_told_5 14 rfl rfl)
theorem dX6_told_225 : decode cX6_told 225 = .ok (.iaload, 1) := dk_46 (dk_at dksX6_told_5 17 rfl rfl)
theorem dX6_told_226 : decode cX6_told 226 = .ok (.ireturn, 1) := dk_172 (dk_at dksX6_told_5 18 rfl rfl)
theorem dX6_told_227 : decode cX6_told 227 = .ok (.iconst (-1), 1) := dk_2 (dk_at dksX6_told_5 19 rfl rfl)
theorem dX6_told_228 : decode cX6_told 228 = .ok (.ireturn, 1) := dk_172 (dk_at dksX6_told_5 20 rfl rfl)
abbrev cX6_wave : ByteArray := prog_16_method_43_code
def yX6_wave : MethodName := ⟨RX6, "wave", "(II)I"⟩
def dkwX6_wave_1 : List UInt8 := [184, 0, 52, 153, 0, 16, 42, 180, 1, 0, 6, 27, 104, 28, 96, 46, 167, 0, 5, 16, 254, 172]
abbrev dktX6_wave_1 : List UInt8 := dkwX6_wave_1 ++ []
def dkwX6_wave_0 : List UInt8 := [27, 133, 9, 42, 180, 1, 78, 133, 10, 101, 184, 0, 52, 153, 0, 28, 28, 133, 9, 20, 1, 87]
abbrev dktX6_wave_0 : List UInt8 := dkwX6_wave_0 ++ dktX6_wave_1
theorem dksX6_wave_0 : cX6_wave.data.toList.drop 0 = dktX6_wave_0 := by decide +kernel
theorem dksX6_wave_1 : cX6_wave.data.toList.drop 22 = dktX6_wave_1 := dk_seg dksX6_wave_0 22 rfl rfl
theorem dX6_wave_0 : decode cX6_wave 0 = .ok (.iload_n 1, 1) := dk_27 (dk_at dksX6_wave_0 0 rfl rfl)
theorem dX6_wave_1 : decode cX6_wave 1 = .ok (.i2l, 1) := dk_133 (dk_at dksX6_wave_0 1 rfl rfl)
theorem dX6_wave_2 : decode cX6_wave 2 = .ok (.lconst 0, 1) := dk_9 (dk_at dksX6_wave_0 2 rfl rfl)
theorem dX6_wave_3 : decode cX6_wave 3 = .ok (.aload_n 0, 1) := dk_42 (dk_at dksX6_wave_0 3 rfl rfl)
theorem dX6_wave_4 : decode cX6_wave 4 = .ok (.getfield 334, 3) := dk_180 1 78 (dk_at dksX6_wave_0 4 rfl rfl)
theorem dX6_wave_7 : decode cX6_wave 7 = .ok (.i2l, 1) := dk_133 (dk_at dksX6_wave_0 7 rfl rfl)
theorem dX6_wave_8 : decode cX6_wave 8 = .ok (.lconst 1, 1) := dk_10 (dk_at dksX6_wave_0 8 rfl rfl)
theorem dX6_wave_9 : decode cX6_wave 9 = .ok (.lsub, 1) := dk_101 (dk_at dksX6_wave_0 9 rfl rfl)
theorem dX6_wave_10 : decode cX6_wave 10 = .ok (.invokestatic 52, 3) := dk_184 0 52 (dk_at dksX6_wave_0 10 rfl rfl)
theorem dX6_wave_13 : decode cX6_wave 13 = .ok (.ifCond .eq 28, 3) := dk_153 0 28 (dk_at dksX6_wave_0 13 rfl rfl)
theorem dX6_wave_16 : decode cX6_wave 16 = .ok (.iload_n 2, 1) := dk_28 (dk_at dksX6_wave_0 16 rfl rfl)
theorem dX6_wave_17 : decode cX6_wave 17 = .ok (.i2l, 1) := dk_133 (dk_at dksX6_wave_0 17 rfl rfl)
theorem dX6_wave_18 : decode cX6_wave 18 = .ok (.lconst 0, 1) := dk_9 (dk_at dksX6_wave_0 18 rfl rfl)
theorem dX6_wave_19 : decode cX6_wave 19 = .ok (.ldc2_w 343, 3) := dk_20 1 87 (dk_at dksX6_wave_0 19 rfl rfl)
theorem dX6_wave_22 : decode cX6_wave 22 = .ok (.invokestatic 52, 3) := dk_184 0 52 (dk_at dksX6_wave_1 0 rfl rfl)
theorem dX6_wave_25 : decode cX6_wave 25 = .ok (.ifCond .eq 16, 3) := dk_153 0 16 (dk_at dksX6_wave_1 3 rfl rfl)
theorem dX6_wave_28 : decode cX6_wave 28 = .ok (.aload_n 0, 1) := dk_42 (dk_at dksX6_wave_1 6 rfl rfl)
theorem dX6_wave_29 : decode cX6_wave 29 = .ok (.getfield 256, 3) := dk_180 1 0 (dk_at dksX6_wave_1 7 rfl rfl)
theorem dX6_wave_32 : decode cX6_wave 32 = .ok (.iconst 3, 1) := dk_6 (dk_at dksX6_wave_1 10 rfl rfl)
theorem dX6_wave_33 : decode cX6_wave 33 = .ok (.iload_n 1, 1) := dk_27 (dk_at dksX6_wave_1 11 rfl rfl)
theorem dX6_wave_34 : decode cX6_wave 34 = .ok (.imul, 1) := dk_104 (dk_at dksX6_wave_1 12 rfl rfl)
theorem dX6_wave_35 : decode cX6_wave 35 = .ok (.iload_n 2, 1) := dk_28 (dk_at dksX6_wave_1 13 rfl rfl)
theorem dX6_wave_36 : decode cX6_wave 36 = .ok (.iadd, 1) := dk_96 (dk_at dksX6_wave_1 14 rfl rfl)
theorem dX6_wave_37 : decode cX6_wave 37 = .ok (.iaload, 1) := dk_46 (dk_at dksX6_wave_1 15 rfl rfl)
theorem dX6_wave_38 : decode cX6_wave 38 = .ok (.goto 5, 3) := dk_167 0 5 (dk_at dksX6_wave_1 16 rfl rfl)
theorem dX6_wave_41 : decode cX6_wave 41 = .ok (.bipush (-2), 2) := dk_16 254 (dk_at dksX6_wave_1 19 rfl rfl)
theorem dX6_wave_43 : decode cX6_wave 43 = .ok (.ireturn, 1) := dk_172 (dk_at dksX6_wave_1 21 rfl rfl)
abbrev cX6_act : ByteArray := prog_16_method_45_code
def yX6_act : MethodName := ⟨RX6, "act", "(IIII)I"⟩
def dkwX6_act_5 : List UInt8 := [16, 254, 172]
abbrev dktX6_act_5 : List UInt8 := dkwX6_act_5 ++ []
def dkwX6_act_4 : List UInt8 := [153, 0, 23, 42, 180, 0, 207, 6, 16, 8, 21, 5, 104, 29, 96, 104, 21, 4, 96, 46, 167, 0, 5]
abbrev dktX6_act_4 : List UInt8 := dkwX6_act_4 ++ dktX6_act_5
def dkwX6_act_3 : List UInt8 := [21, 5, 46, 133, 10, 101, 184, 0, 52, 153, 0, 36, 21, 4, 133, 9, 20, 1, 87, 184, 0, 52]
abbrev dktX6_act_3 : List UInt8 := dkwX6_act_3 ++ dktX6_act_4
def dkwX6_act_2 : List UInt8 := [96, 54, 5, 29, 2, 160, 0, 11, 42, 180, 0, 228, 21, 5, 46, 172, 29, 133, 9, 42, 180, 0, 228]
abbrev dktX6_act_2 : List UInt8 := dkwX6_act_2 ++ dktX6_act_3
def dkwX6_act_1 : List UInt8 := [133, 9, 42, 180, 1, 10, 27, 46, 133, 10, 101, 184, 0, 52, 154, 0, 6, 16, 254, 172, 7, 27, 104, 28]
abbrev dktX6_act_1 : List UInt8 := dkwX6_act_1 ++ dktX6_act_2
def dkwX6_act_0 : List UInt8 := [42, 27, 182, 1, 95, 154, 0, 6, 16, 254, 172, 28, 2, 160, 0, 10, 42, 180, 1, 10, 27, 46, 172, 28]
abbrev dktX6_act_0 : List UInt8 := dkwX6_act_0 ++ dktX6_act_1
theorem dksX6_act_0 : cX6_act.data.toList.drop 0 = dktX6_act_0 := by decide +kernel
theorem dksX6_act_1 : cX6_act.data.toList.drop 24 = dktX6_act_1 := dk_seg dksX6_act_0 24 rfl rfl
theorem dksX6_act_2 : cX6_act.data.toList.drop 48 = dktX6_act_2 := dk_seg dksX6_act_1 24 rfl rfl
theorem dksX6_act_3 : cX6_act.data.toList.drop 71 = dktX6_act_3 := dk_seg dksX6_act_2 23 rfl rfl
theorem dksX6_act_4 : cX6_act.data.toList.drop 93 = dktX6_act_4 := dk_seg dksX6_act_3 22 rfl rfl
theorem dksX6_act_5 : cX6_act.data.toList.drop 116 = dktX6_act_5 := dk_seg dksX6_act_4 23 rfl rfl
theorem dX6_act_0 : decode cX6_act 0 = .ok (.aload_n 0, 1) := dk_42 (dk_at dksX6_act_0 0 rfl rfl)
theorem dX6_act_1 : decode cX6_act 1 = .ok (.iload_n 1, 1) := dk_27 (dk_at dksX6_act_0 1 rfl rfl)
theorem dX6_act_2 : decode cX6_act 2 = .ok (.invokevirtual 351, 3) := dk_182 1 95 (dk_at dksX6_act_0 2 rfl rfl)
theorem dX6_act_5 : decode cX6_act 5 = .ok (.ifCond .ne 6, 3) := dk_154 0 6 (dk_at dksX6_act_0 5 rfl rfl)
theorem dX6_act_8 : decode cX6_act 8 = .ok (.bipush (-2), 2) := dk_16 254 (dk_at dksX6_act_0 8 rfl rfl)
theorem dX6_act_10 : decode cX6_act 10 = .ok (.ireturn, 1) := dk_172 (dk_at dksX6_act_0 10 rfl rfl)
theorem dX6_act_11 : decode cX6_act 11 = .ok (.iload_n 2, 1) := dk_28 (dk_at dksX6_act_0 11 rfl rfl)
theorem dX6_act_12 : decode cX6_act 12 = .ok (.iconst (-1), 1) := dk_2 (dk_at dksX6_act_0 12 rfl rfl)
theorem dX6_act_13 : decode cX6_act 13 = .ok (.if_icmp .ne 10, 3) := dk_160 0 10 (dk_at dksX6_act_0 13 rfl rfl)
theorem dX6_act_16 : decode cX6_act 16 = .ok (.aload_n 0, 1) := dk_42 (dk_at dksX6_act_0 16 rfl rfl)
theorem dX6_act_17 : decode cX6_act 17 = .ok (.getfield 266, 3) := dk_180 1 10 (dk_at dksX6_act_0 17 rfl rfl)
theorem dX6_act_20 : decode cX6_act 20 = .ok (.iload_n 1, 1) := dk_27 (dk_at dksX6_act_0 20 rfl rfl)
theorem dX6_act_21 : decode cX6_act 21 = .ok (.iaload, 1) := dk_46 (dk_at dksX6_act_0 21 rfl rfl)
theorem dX6_act_22 : decode cX6_act 22 = .ok (.ireturn, 1) := dk_172 (dk_at dksX6_act_0 22 rfl rfl)
theorem dX6_act_23 : decode cX6_act 23 = .ok (.iload_n 2, 1) := dk_28 (dk_at dksX6_act_0 23 rfl rfl)
theorem dX6_act_24 : decode cX6_act 24 = .ok (.i2l, 1) := dk_133 (dk_at dksX6_act_1 0 rfl rfl)
theorem dX6_act_25 : decode cX6_act 25 = .ok (.lconst 0, 1) := dk_9 (dk_at dksX6_act_1 1 rfl rfl)
theorem dX6_act_26 : decode cX6_act 26 = .ok (.aload_n 0, 1) := dk_42 (dk_at dksX6_act_1 2 rfl rfl)
theorem dX6_act_27 : decode cX6_act 27 = .ok (.getfield 266, 3) := dk_180 1 10 (dk_at dksX6_act_1 3 rfl rfl)
theorem dX6_act_30 : decode cX6_act 30 = .ok (.iload_n 1, 1) := dk_27 (dk_at dksX6_act_1 6 rfl rfl)
theorem dX6_act_31 : decode cX6_act 31 = .ok (.iaload, 1) := dk_46 (dk_at dksX6_act_1 7 rfl rfl)
theorem dX6_act_32 : decode cX6_act 32 = .ok (.i2l, 1) := dk_133 (dk_at dksX6_act_1 8 rfl rfl)
theorem dX6_act_33 : decode cX6_act 33 = .ok (.lconst 1, 1) := dk_10 (dk_at dksX6_act_1 9 rfl rfl)
theorem dX6_act_34 : decode cX6_act 34 = .ok (.lsub, 1) := dk_101 (dk_at dksX6_act_1 10 rfl rfl)
theorem dX6_act_35 : decode cX6_act 35 = .ok (.invokestatic 52, 3) := dk_184 0 52 (dk_at dksX6_act_1 11 rfl rfl)
theorem dX6_act_38 : decode cX6_act 38 = .ok (.ifCond .ne 6, 3) := dk_154 0 6 (dk_at dksX6_act_1 14 rfl rfl)
theorem dX6_act_41 : decode cX6_act 41 = .ok (.bipush (-2), 2) := dk_16 254 (dk_at dksX6_act_1 17 rfl rfl)
theorem dX6_act_43 : decode cX6_act 43 = .ok (.ireturn, 1) := dk_172 (dk_at dksX6_act_1 19 rfl rfl)
theorem dX6_act_44 : decode cX6_act 44 = .ok (.iconst 4, 1) := dk_7 (dk_at dksX6_act_1 20 rfl rfl)
theorem dX6_act_45 : decode cX6_act 45 = .ok (.iload_n 1, 1) := dk_27 (dk_at dksX6_act_1 21 rfl rfl)
theorem dX6_act_46 : decode cX6_act 46 = .ok (.imul, 1) := dk_104 (dk_at dksX6_act_1 22 rfl rfl)
theorem dX6_act_47 : decode cX6_act 47 = .ok (.iload_n 2, 1) := dk_28 (dk_at dksX6_act_1 23 rfl rfl)
theorem dX6_act_48 : decode cX6_act 48 = .ok (.iadd, 1) := dk_96 (dk_at dksX6_act_2 0 rfl rfl)
theorem dX6_act_49 : decode cX6_act 49 = .ok (.istore 5, 2) := dk_54 5 (dk_at dksX6_act_2 1 rfl rfl)
theorem dX6_act_51 : decode cX6_act 51 = .ok (.iload_n 3, 1) := dk_29 (dk_at dksX6_act_2 3 rfl rfl)
theorem dX6_act_52 : decode cX6_act 52 = .ok (.iconst (-1), 1) := dk_2 (dk_at dksX6_act_2 4 rfl rfl)
theorem dX6_act_53 : decode cX6_act 53 = .ok (.if_icmp .ne 11, 3) := dk_160 0 11 (dk_at dksX6_act_2 5 rfl rfl)
theorem dX6_act_56 : decode cX6_act 56 = .ok (.aload_n 0, 1) := dk_42 (dk_at dksX6_act_2 8 rfl rfl)
theorem dX6_act_57 : decode cX6_act 57 = .ok (.getfield 228, 3) := dk_180 0 228 (dk_at dksX6_act_2 9 rfl rfl)
theorem dX6_act_60 : decode cX6_act 60 = .ok (.iload 5, 2) := dk_21 5 (dk_at dksX6_act_2 12 rfl rfl)
theorem dX6_act_62 : decode cX6_act 62 = .ok (.iaload, 1) := dk_46 (dk_at dksX6_act_2 14 rfl rfl)
theorem dX6_act_63 : decode cX6_act 63 = .ok (.ireturn, 1) := dk_172 (dk_at dksX6_act_2 15 rfl rfl)
theorem dX6_act_64 : decode cX6_act 64 = .ok (.iload_n 3, 1) := dk_29 (dk_at dksX6_act_2 16 rfl rfl)
theorem dX6_act_65 : decode cX6_act 65 = .ok (.i2l, 1) := dk_133 (dk_at dksX6_act_2 17 rfl rfl)
theorem dX6_act_66 : decode cX6_act 66 = .ok (.lconst 0, 1) := dk_9 (dk_at dksX6_act_2 18 rfl rfl)
theorem dX6_act_67 : decode cX6_act 67 = .ok (.aload_n 0, 1) := dk_42 (dk_at dksX6_act_2 19 rfl rfl)
theorem dX6_act_68 : decode cX6_act 68 = .ok (.getfield 228, 3) := dk_180 0 228 (dk_at dksX6_act_2 20 rfl rfl)
theorem dX6_act_71 : decode cX6_act 71 = .ok (.iload 5, 2) := dk_21 5 (dk_at dksX6_act_3 0 rfl rfl)
theorem dX6_act_73 : decode cX6_act 73 = .ok (.iaload, 1) := dk_46 (dk_at dksX6_act_3 2 rfl rfl)
theorem dX6_act_74 : decode cX6_act 74 = .ok (.i2l, 1) := dk_133 (dk_at dksX6_act_3 3 rfl rfl)
theorem dX6_act_75 : decode cX6_act 75 = .ok (.lconst 1, 1) := dk_10 (dk_at dksX6_act_3 4 rfl rfl)
theorem dX6_act_76 : decode cX6_act 76 = .ok (.lsub, 1) := dk_101 (dk_at dksX6_act_3 5 rfl rfl)
theorem dX6_act_77 : decode cX6_act 77 = .ok (.invokestatic 52, 3) := dk_184 0 52 (dk_at dksX6_act_3 6 rfl rfl)
theorem dX6_act_80 : decode cX6_act 80 = .ok (.ifCond .eq 36, 3) := dk_153 0 36 (dk_at dksX6_act_3 9 rfl rfl)
theorem dX6_act_83 : decode cX6_act 83 = .ok (.iload 4, 2) := dk_21 4 (dk_at dksX6_act_3 12 rfl rfl)
theorem dX6_act_85 : decode cX6_act 85 = .ok (.i2l, 1) := dk_133 (dk_at dksX6_act_3 14 rfl rfl)
theorem dX6_act_86 : decode cX6_act 86 = .ok (.lconst 0, 1) := dk_9 (dk_at dksX6_act_3 15 rfl rfl)
theorem dX6_act_87 : decode cX6_act 87 = .ok (.ldc2_w 343, 3) := dk_20 1 87 (dk_at dksX6_act_3 16 rfl rfl)
theorem dX6_act_90 : decode cX6_act 90 = .ok (.invokestatic 52, 3) := dk_184 0 52 (dk_at dksX6_act_3 19 rfl rfl)
theorem dX6_act_93 : decode cX6_act 93 = .ok (.ifCond .eq 23, 3) := dk_153 0 23 (dk_at dksX6_act_4 0 rfl rfl)
theorem dX6_act_96 : decode cX6_act 96 = .ok (.aload_n 0, 1) := dk_42 (dk_at dksX6_act_4 3 rfl rfl)
theorem dX6_act_97 : decode cX6_act 97 = .ok (.getfield 207, 3) := dk_180 0 207 (dk_at dksX6_act_4 4 rfl rfl)
theorem dX6_act_100 : decode cX6_act 100 = .ok (.iconst 3, 1) := dk_6 (dk_at dksX6_act_4 7 rfl rfl)
theorem dX6_act_101 : decode cX6_act 101 = .ok (.bipush 8, 2) := dk_16 8 (dk_at dksX6_act_4 8 rfl rfl)
theorem dX6_act_103 : decode cX6_act 103 = .ok (.iload 5, 2) := dk_21 5 (dk_at dksX6_act_4 10 rfl rfl)
theorem dX6_act_105 : decode cX6_act 105 = .ok (.imul, 1) := dk_104 (dk_at dksX6_act_4 12 rfl rfl)
theorem dX6_act_106 : decode cX6_act 106 = .ok (.iload_n 3, 1) := dk_29 (dk_at dksX6_act_4 13 rfl rfl)
theorem dX6_act_107 : decode cX6_act 107 = .ok (.iadd, 1) := dk_96 (dk_at dksX6_act_4 14 rfl rfl)
theorem dX6_act_108 : decode cX6_act 108 = .ok (.imul, 1) := dk_104 (dk_at dksX6_act_4 15 rfl rfl)
theorem dX6_act_109 : decode cX6_act 109 = .ok (.iload 4, 2) := dk_21 4 (dk_at dksX6_act_4 16 rfl rfl)
theorem dX6_act_111 : decode cX6_act 111 = .ok (.iadd, 1) := dk_96 (dk_at dksX6_act_4 18 rfl rfl)
theorem dX6_act_112 : decode cX6_act 112 = .ok (.iaload, 1) := dk_46 (dk_at dksX6_act_4 19 rfl rfl)
theorem dX6_act_113 : decode cX6_act 113 = .ok (.goto 5, 3) := dk_167 0 5 (dk_at dksX6_act_4 20 rfl rfl)
theorem dX6_act_116 : decode cX6_act 116 = .ok (.bipush (-2), 2) := dk_16 254 (dk_at dksX6_act_5 0 rfl rfl)
theorem dX6_act_118 : decode cX6_act 118 = .ok (.ireturn, 1) := dk_172 (dk_at dksX6_act_5 2 rfl rfl)
abbrev cX6_isPlan : ByteArray := prog_16_method_44_code
def yX6_isPlan : MethodName := ⟨RX6, "isPlan", "(I)Z"⟩
def dkwX6_isPlan_0 : List UInt8 := [27, 133, 9, 42, 180, 0, 225, 133, 10, 101, 184, 0, 52, 172]
abbrev dktX6_isPlan_0 : List UInt8 := dkwX6_isPlan_0 ++ []
theorem dksX6_isPlan_0 : cX6_isPlan.data.toList.drop 0 = dktX6_isPlan_0 := by decide +kernel
theorem dX6_isPlan_0 : decode cX6_isPlan 0 = .ok (.iload_n 1, 1) := dk_27 (dk_at dksX6_isPlan_0 0 rfl rfl)
theorem dX6_isPlan_1 : decode cX6_isPlan 1 = .ok (.i2l, 1) := dk_133 (dk_at dksX6_isPlan_0 1 rfl rfl)
theorem dX6_isPlan_2 : decode cX6_isPlan 2 = .ok (.lconst 0, 1) := dk_9 (dk_at dksX6_isPlan_0 2 rfl rfl)
theorem dX6_isPlan_3 : decode cX6_isPlan 3 = .ok (.aload_n 0, 1) := dk_42 (dk_at dksX6_isPlan_0 3 rfl rfl)
theorem dX6_isPlan_4 : decode cX6_isPlan 4 = .ok (.getfield 225, 3) := dk_180 0 225 (dk_at dksX6_isPlan_0 4 rfl rfl)
theorem dX6_isPlan_7 : decode cX6_isPlan 7 = .ok (.i2l, 1) := dk_133 (dk_at dksX6_isPlan_0 7 rfl rfl)
theorem dX6_isPlan_8 : decode cX6_isPlan 8 = .ok (.lconst 1, 1) := dk_10 (dk_at dksX6_isPlan_0 8 rfl rfl)
theorem dX6_isPlan_9 : decode cX6_isPlan 9 = .ok (.lsub, 1) := dk_101 (dk_at dksX6_isPlan_0 9 rfl rfl)
theorem dX6_isPlan_10 : decode cX6_isPlan 10 = .ok (.invokestatic 52, 3) := dk_184 0 52 (dk_at dksX6_isPlan_0 10 rfl rfl)
theorem dX6_isPlan_13 : decode cX6_isPlan 13 = .ok (.ireturn, 1) := dk_172 (dk_at dksX6_isPlan_0 13 rfl rfl)
abbrev cX6_chance : ByteArray := prog_16_method_60_code
def yX6_chance : MethodName := ⟨RX6, "chance", "(I)I"⟩
def dkwX6_chance_0 : List UInt8 := [27, 156, 0, 6, 16, 254, 172, 42, 180, 1, 13, 17, 1, 32, 27, 79, 4, 172]
abbrev dktX6_chance_0 : List UInt8 := dkwX6_chance_0 ++ []
theorem dksX6_chance_0 : cX6_chance.data.toList.drop 0 = dktX6_chance_0 := by decide +kernel
theorem dX6_chance_0 : decode cX6_chance 0 = .ok (.iload_n 1, 1) := dk_27 (dk_at dksX6_chance_0 0 rfl rfl)
theorem dX6_chance_1 : decode cX6_chance 1 = .ok (.ifCond .ge 6, 3) := dk_156 0 6 (dk_at dksX6_chance_0 1 rfl rfl)
theorem dX6_chance_4 : decode cX6_chance 4 = .ok (.bipush (-2), 2) := dk_16 254 (dk_at dksX6_chance_0 4 rfl rfl)
theorem dX6_chance_6 : decode cX6_chance 6 = .ok (.ireturn, 1) := dk_172 (dk_at dksX6_chance_0 6 rfl rfl)
theorem dX6_chance_7 : decode cX6_chance 7 = .ok (.aload_n 0, 1) := dk_42 (dk_at dksX6_chance_0 7 rfl rfl)
theorem dX6_chance_8 : decode cX6_chance 8 = .ok (.getfield 269, 3) := dk_180 1 13 (dk_at dksX6_chance_0 8 rfl rfl)
theorem dX6_chance_11 : decode cX6_chance 11 = .ok (.sipush 288, 3) := dk_17 1 32 (dk_at dksX6_chance_0 11 rfl rfl)
theorem dX6_chance_14 : decode cX6_chance 14 = .ok (.iload_n 1, 1) := dk_27 (dk_at dksX6_chance_0 14 rfl rfl)
theorem dX6_chance_15 : decode cX6_chance 15 = .ok (.iastore, 1) := dk_79 (dk_at dksX6_chance_0 15 rfl rfl)
theorem dX6_chance_16 : decode cX6_chance 16 = .ok (.iconst 1, 1) := dk_4 (dk_at dksX6_chance_0 16 rfl rfl)
theorem dX6_chance_17 : decode cX6_chance 17 = .ok (.ireturn, 1) := dk_172 (dk_at dksX6_chance_0 17 rfl rfl)
abbrev cX6_work : ByteArray := prog_16_method_62_code
def yX6_work : MethodName := ⟨RX6, "work", "(I)I"⟩
def dkwX6_work_1 : List UInt8 := [4, 172]
abbrev dktX6_work_1 : List UInt8 := dkwX6_work_1 ++ []
def dkwX6_work_0 : List UInt8 := [27, 2, 159, 0, 14, 42, 27, 182, 1, 95, 154, 0, 6, 16, 254, 172, 42, 180, 1, 13, 27, 184, 1, 161]
abbrev dktX6_work_0 : List UInt8 := dkwX6_work_0 ++ dktX6_work_1
theorem dksX6_work_0 : cX6_work.data.toList.drop 0 = dktX6_work_0 := by decide +kernel
theorem dksX6_work_1 : cX6_work.data.toList.drop 24 = dktX6_work_1 := dk_seg dksX6_work_0 24 rfl rfl
theorem dX6_work_0 : decode cX6_work 0 = .ok (.iload_n 1, 1) := dk_27 (dk_at dksX6_work_0 0 rfl rfl)
theorem dX6_work_1 : decode cX6_work 1 = .ok (.iconst (-1), 1) := dk_2 (dk_at dksX6_work_0 1 rfl rfl)
theorem dX6_work_2 : decode cX6_work 2 = .ok (.if_icmp .eq 14, 3) := dk_159 0 14 (dk_at dksX6_work_0 2 rfl rfl)
theorem dX6_work_5 : decode cX6_work 5 = .ok (.aload_n 0, 1) := dk_42 (dk_at dksX6_work_0 5 rfl rfl)
theorem dX6_work_6 : decode cX6_work 6 = .ok (.iload_n 1, 1) := dk_27 (dk_at dksX6_work_0 6 rfl rfl)
theorem dX6_work_7 : decode cX6_work 7 = .ok (.invokevirtual 351, 3) := dk_182 1 95 (dk_at dksX6_work_0 7 rfl rfl)
theorem dX6_work_10 : decode cX6_work 10 = .ok (.ifCond .ne 6, 3) := dk_154 0 6 (dk_at dksX6_work_0 10 rfl rfl)
theorem dX6_work_13 : decode cX6_work 13 = .ok (.bipush (-2), 2) := dk_16 254 (dk_at dksX6_work_0 13 rfl rfl)
theorem dX6_work_15 : decode cX6_work 15 = .ok (.ireturn, 1) := dk_172 (dk_at dksX6_work_0 15 rfl rfl)
theorem dX6_work_16 : decode cX6_work 16 = .ok (.aload_n 0, 1) := dk_42 (dk_at dksX6_work_0 16 rfl rfl)
theorem dX6_work_17 : decode cX6_work 17 = .ok (.getfield 269, 3) := dk_180 1 13 (dk_at dksX6_work_0 17 rfl rfl)
theorem dX6_work_20 : decode cX6_work 20 = .ok (.iload_n 1, 1) := dk_27 (dk_at dksX6_work_0 20 rfl rfl)
theorem dX6_work_21 : decode cX6_work 21 = .ok (.invokestatic 417, 3) := dk_184 1 161 (dk_at dksX6_work_0 21 rfl rfl)
theorem dX6_work_24 : decode cX6_work 24 = .ok (.iconst 1, 1) := dk_4 (dk_at dksX6_work_1 0 rfl rfl)
theorem dX6_work_25 : decode cX6_work 25 = .ok (.ireturn, 1) := dk_172 (dk_at dksX6_work_1 1 rfl rfl)
abbrev cX6_putPlan : ByteArray := prog_16_method_61_code
def yX6_putPlan : MethodName := ⟨RX6, "putPlan", "([II)V"⟩
def dkwX6_putPlan_1 : List UInt8 := [17, 1, 24, 28, 96, 3, 79, 42, 17, 1, 28, 28, 96, 3, 79, 132, 2, 1, 167, 255, 224, 177]
abbrev dktX6_putPlan_1 : List UInt8 := dkwX6_putPlan_1 ++ []
def dkwX6_putPlan_0 : List UInt8 := [42, 17, 1, 19, 27, 79, 3, 61, 28, 7, 162, 0, 33, 42, 17, 1, 20, 28, 96, 3, 79, 42]
abbrev dktX6_putPlan_0 : List UInt8 := dkwX6_putPlan_0 ++ dktX6_putPlan_1
theorem dksX6_putPlan_0 : cX6_putPlan.data.toList.drop 0 = dktX6_putPlan_0 := by decide +kernel
theorem dksX6_putPlan_1 : cX6_putPlan.data.toList.drop 22 = dktX6_putPlan_1 := dk_seg dksX6_putPlan_0 22 rfl rfl
theorem dX6_putPlan_0 : decode cX6_putPlan 0 = .ok (.aload_n 0, 1) := dk_42 (dk_at dksX6_putPlan_0 0 rfl rfl)
theorem dX6_putPlan_1 : decode cX6_putPlan 1 = .ok (.sipush 275, 3) := dk_17 1 19 (dk_at dksX6_putPlan_0 1 rfl rfl)
theorem dX6_putPlan_4 : decode cX6_putPlan 4 = .ok (.iload_n 1, 1) := dk_27 (dk_at dksX6_putPlan_0 4 rfl rfl)
theorem dX6_putPlan_5 : decode cX6_putPlan 5 = .ok (.iastore, 1) := dk_79 (dk_at dksX6_putPlan_0 5 rfl rfl)
theorem dX6_putPlan_6 : decode cX6_putPlan 6 = .ok (.iconst 0, 1) := dk_3 (dk_at dksX6_putPlan_0 6 rfl rfl)
theorem dX6_putPlan_7 : decode cX6_putPlan 7 = .ok (.istore_n 2, 1) := dk_61 (dk_at dksX6_putPlan_0 7 rfl rfl)
theorem dX6_putPlan_8 : decode cX6_putPlan 8 = .ok (.iload_n 2, 1) := dk_28 (dk_at dksX6_putPlan_0 8 rfl rfl)
theorem dX6_putPlan_9 : decode cX6_putPlan 9 = .ok (.iconst 4, 1) := dk_7 (dk_at dksX6_putPlan_0 9 rfl rfl)
theorem dX6_putPlan_10 : decode cX6_putPlan 10 = .ok (.if_icmp .ge 33, 3) := dk_162 0 33 (dk_at dksX6_putPlan_0 10 rfl rfl)
theorem dX6_putPlan_13 : decode cX6_putPlan 13 = .ok (.aload_n 0, 1) := dk_42 (dk_at dksX6_putPlan_0 13 rfl rfl)
theorem dX6_putPlan_14 : decode cX6_putPlan 14 = .ok (.sipush 276, 3) := dk_17 1 20 (dk_at dksX6_putPlan_0 14 rfl rfl)
theorem dX6_putPlan_17 : decode cX6_putPlan 17 = .ok (.iload_n 2, 1) := dk_28 (dk_at dksX6_putPlan_0 17 rfl rfl)
theorem dX6_putPlan_18 : decode cX6_putPlan 18 = .ok (.iadd, 1) := dk_96 (dk_at dksX6_putPlan_0 18 rfl rfl)
theorem dX6_putPlan_19 : decode cX6_putPlan 19 = .ok (.iconst 0, 1) := dk_3 (dk_at dksX6_putPlan_0 19 rfl rfl)
theorem dX6_putPlan_20 : decode cX6_putPlan 20 = .ok (.iastore, 1) := dk_79 (dk_at dksX6_putPlan_0 20 rfl rfl)
theorem dX6_putPlan_21 : decode cX6_putPlan 21 = .ok (.aload_n 0, 1) := dk_42 (dk_at dksX6_putPlan_0 21 rfl rfl)
theorem dX6_putPlan_22 : decode cX6_putPlan 22 = .ok (.sipush 280, 3) := dk_17 1 24 (dk_at dksX6_putPlan_1 0 rfl rfl)
theorem dX6_putPlan_25 : decode cX6_putPlan 25 = .ok (.iload_n 2, 1) := dk_28 (dk_at dksX6_putPlan_1 3 rfl rfl)
theorem dX6_putPlan_26 : decode cX6_putPlan 26 = .ok (.iadd, 1) := dk_96 (dk_at dksX6_putPlan_1 4 rfl rfl)
theorem dX6_putPlan_27 : decode cX6_putPlan 27 = .ok (.iconst 0, 1) := dk_3 (dk_at dksX6_putPlan_1 5 rfl rfl)
theorem dX6_putPlan_28 : decode cX6_putPlan 28 = .ok (.iastore, 1) := dk_79 (dk_at dksX6_putPlan_1 6 rfl rfl)
theorem dX6_putPlan_29 : decode cX6_putPlan 29 = .ok (.aload_n 0, 1) := dk_42 (dk_at dksX6_putPlan_1 7 rfl rfl)
theorem dX6_putPlan_30 : decode cX6_putPlan 30 = .ok (.sipush 284, 3) := dk_17 1 28 (dk_at dksX6_putPlan_1 8 rfl rfl)
theorem dX6_putPlan_33 : decode cX6_putPlan 33 = .ok (.iload_n 2, 1) := dk_28 (dk_at dksX6_putPlan_1 11 rfl rfl)
theorem dX6_putPlan_34 : decode cX6_putPlan 34 = .ok (.iadd, 1) := dk_96 (dk_at dksX6_putPlan_1 12 rfl rfl)
theorem dX6_putPlan_35 : decode cX6_putPlan 35 = .ok (.iconst 0, 1) := dk_3 (dk_at dksX6_putPlan_1 13 rfl rfl)
theorem dX6_putPlan_36 : decode cX6_putPlan 36 = .ok (.iastore, 1) := dk_79 (dk_at dksX6_putPlan_1 14 rfl rfl)
theorem dX6_putPlan_37 : decode cX6_putPlan 37 = .ok (.iinc 2 1, 3) := dk_132 2 1 (dk_at dksX6_putPlan_1 15 rfl rfl)
theorem dX6_putPlan_40 : decode cX6_putPlan 40 = .ok (.goto (-32), 3) := dk_167 255 224 (dk_at dksX6_putPlan_1 18 rfl rfl)
theorem dX6_putPlan_43 : decode cX6_putPlan 43 = .ok (.return_, 1) := dk_177 (dk_at dksX6_putPlan_1 21 rfl rfl)
abbrev cX6_pass : ByteArray := prog_16_method_63_code
def yX6_pass : MethodName := ⟨RX6, "pass", "(I)I"⟩
def dkwX6_pass_1 : List UInt8 := [180, 1, 13, 182, 1, 166, 132, 2, 1, 167, 255, 240, 42, 180, 1, 13, 17, 1, 14, 46, 172]
abbrev dktX6_pass_1 : List UInt8 := dkwX6_pass_1 ++ []
def dkwX6_pass_0 : List UInt8 := [27, 133, 9, 20, 1, 164, 184, 0, 52, 154, 0, 6, 16, 254, 172, 3, 61, 28, 27, 162, 0, 17, 42, 42]
abbrev dktX6_pass_0 : List UInt8 := dkwX6_pass_0 ++ dktX6_pass_1
theorem dksX6_pass_0 : cX6_pass.data.toList.drop 0 = dktX6_pass_0 := by decide +kernel
theorem dksX6_pass_1 : cX6_pass.data.toList.drop 24 = dktX6_pass_1 := dk_seg dksX6_pass_0 24 rfl rfl
theorem dX6_pass_0 : decode cX6_pass 0 = .ok (.iload_n 1, 1) := dk_27 (dk_at dksX6_pass_0 0 rfl rfl)
theorem dX6_pass_1 : decode cX6_pass 1 = .ok (.i2l, 1) := dk_133 (dk_at dksX6_pass_0 1 rfl rfl)
theorem dX6_pass_2 : decode cX6_pass 2 = .ok (.lconst 0, 1) := dk_9 (dk_at dksX6_pass_0 2 rfl rfl)
theorem dX6_pass_3 : decode cX6_pass 3 = .ok (.ldc2_w 420, 3) := dk_20 1 164 (dk_at dksX6_pass_0 3 rfl rfl)
theorem dX6_pass_6 : decode cX6_pass 6 = .ok (.invokestatic 52, 3) := dk_184 0 52 (dk_at dksX6_pass_0 6 rfl rfl)
theorem dX6_pass_9 : decode cX6_pass 9 = .ok (.ifCond .ne 6, 3) := dk_154 0 6 (dk_at dksX6_pass_0 9 rfl rfl)
theorem dX6_pass_12 : decode cX6_pass 12 = .ok (.bipush (-2), 2) := dk_16 254 (dk_at dksX6_pass_0 12 rfl rfl)
theorem dX6_pass_14 : decode cX6_pass 14 = .ok (.ireturn, 1) := dk_172 (dk_at dksX6_pass_0 14 rfl rfl)
theorem dX6_pass_15 : decode cX6_pass 15 = .ok (.iconst 0, 1) := dk_3 (dk_at dksX6_pass_0 15 rfl rfl)
theorem dX6_pass_16 : decode cX6_pass 16 = .ok (.istore_n 2, 1) := dk_61 (dk_at dksX6_pass_0 16 rfl rfl)
theorem dX6_pass_17 : decode cX6_pass 17 = .ok (.iload_n 2, 1) := dk_28 (dk_at dksX6_pass_0 17 rfl rfl)
theorem dX6_pass_18 : decode cX6_pass 18 = .ok (.iload_n 1, 1) := dk_27 (dk_at dksX6_pass_0 18 rfl rfl)
theorem dX6_pass_19 : decode cX6_pass 19 = .ok (.if_icmp .ge 17, 3) := dk_162 0 17 (dk_at dksX6_pass_0 19 rfl rfl)
theorem dX6_pass_22 : decode cX6_pass 22 = .ok (.aload_n 0, 1) := dk_42 (dk_at dksX6_pass_0 22 rfl rfl)
theorem dX6_pass_23 : decode cX6_pass 23 = .ok (.aload_n 0, 1) := dk_42 (dk_at dksX6_pass_0 23 rfl rfl)
theorem dX6_pass_24 : decode cX6_pass 24 = .ok (.getfield 269, 3) := dk_180 1 13 (dk_at dksX6_pass_1 0 rfl rfl)
theorem dX6_pass_27 : decode cX6_pass 27 = .ok (.invokevirtual 422, 3) := dk_182 1 166 (dk_at dksX6_pass_1 3 rfl rfl)
theorem dX6_pass_30 : decode cX6_pass 30 = .ok (.iinc 2 1, 3) := dk_132 2 1 (dk_at dksX6_pass_1 6 rfl rfl)
theorem dX6_pass_33 : decode cX6_pass 33 = .ok (.goto (-16), 3) := dk_167 255 240 (dk_at dksX6_pass_1 9 rfl rfl)
theorem dX6_pass_36 : decode cX6_pass 36 = .ok (.aload_n 0, 1) := dk_42 (dk_at dksX6_pass_1 12 rfl rfl)
theorem dX6_pass_37 : decode cX6_pass 37 = .ok (.getfield 269, 3) := dk_180 1 13 (dk_at dksX6_pass_1 13 rfl rfl)
theorem dX6_pass_40 : decode cX6_pass 40 = .ok (.sipush 270, 3) := dk_17 1 14 (dk_at dksX6_pass_1 16 rfl rfl)
theorem dX6_pass_43 : decode cX6_pass 43 = .ok (.iaload, 1) := dk_46 (dk_at dksX6_pass_1 19 rfl rfl)
theorem dX6_pass_44 : decode cX6_pass 44 = .ok (.ireturn, 1) := dk_172 (dk_at dksX6_pass_1 20 rfl rfl)
abbrev cX6_minute : ByteArray := prog_16_method_59_code
def yX6_minute : MethodName := ⟨RX6, "minute", "([I)V"⟩
def dkwX6_minute_0 : List UInt8 := [42, 43, 182, 1, 155, 42, 43, 182, 1, 158, 177]
abbrev dktX6_minute_0 : List UInt8 := dkwX6_minute_0 ++ []
theorem dksX6_minute_0 : cX6_minute.data.toList.drop 0 = dktX6_minute_0 := by decide +kernel
theorem dX6_minute_0 : decode cX6_minute 0 = .ok (.aload_n 0, 1) := dk_42 (dk_at dksX6_minute_0 0 rfl rfl)
theorem dX6_minute_1 : decode cX6_minute 1 = .ok (.aload_n 1, 1) := dk_43 (dk_at dksX6_minute_0 1 rfl rfl)
theorem dX6_minute_2 : decode cX6_minute 2 = .ok (.invokevirtual 411, 3) := dk_182 1 155 (dk_at dksX6_minute_0 2 rfl rfl)
theorem dX6_minute_5 : decode cX6_minute 5 = .ok (.aload_n 0, 1) := dk_42 (dk_at dksX6_minute_0 5 rfl rfl)
theorem dX6_minute_6 : decode cX6_minute 6 = .ok (.aload_n 1, 1) := dk_43 (dk_at dksX6_minute_0 6 rfl rfl)
theorem dX6_minute_7 : decode cX6_minute 7 = .ok (.invokevirtual 414, 3) := dk_182 1 158 (dk_at dksX6_minute_0 7 rfl rfl)
theorem dX6_minute_10 : decode cX6_minute 10 = .ok (.return_, 1) := dk_177 (dk_at dksX6_minute_0 10 rfl rfl)
abbrev cX6_handsDo : ByteArray := prog_16_method_50_code
def yX6_handsDo : MethodName := ⟨RX6, "handsDo", "([I)V"⟩
def dkwX6_handsDo_7 : List UInt8 := [3, 79, 43, 17, 1, 28, 29, 96, 4, 79, 132, 3, 1, 167, 255, 83, 177]
abbrev dktX6_handsDo_7 : List UInt8 := dkwX6_handsDo_7 ++ []
def dkwX6_handsDo_6 : List UInt8 := [17, 1, 24, 29, 96, 46, 42, 180, 0, 245, 8, 46, 162, 0, 6, 167, 0, 19, 43, 17, 1, 24, 29, 96]
abbrev dktX6_handsDo_6 : List UInt8 := dkwX6_handsDo_6 ++ dktX6_handsDo_7
def dkwX6_handsDo_5 : List UInt8 := [46, 112, 79, 43, 17, 1, 24, 29, 96, 92, 46, 4, 96, 79, 42, 180, 0, 245, 8, 46, 153, 0, 38, 43]
abbrev dktX6_handsDo_5 : List UInt8 := dkwX6_handsDo_5 ++ dktX6_handsDo_6
def dkwX6_handsDo_4 : List UInt8 := [182, 1, 117, 43, 17, 1, 20, 29, 96, 43, 17, 1, 20, 29, 96, 46, 4, 96, 42, 180, 0, 228, 21, 4]
abbrev dktX6_handsDo_4 : List UInt8 := dkwX6_handsDo_4 ++ dktX6_handsDo_5
def dkwX6_handsDo_3 : List UInt8 := [180, 0, 207, 21, 5, 46, 42, 180, 0, 207, 21, 5, 4, 96, 46, 42, 180, 0, 207, 21, 5, 5, 96, 46]
abbrev dktX6_handsDo_3 : List UInt8 := dkwX6_handsDo_3 ++ dktX6_handsDo_4
def dkwX6_handsDo_2 : List UInt8 := [79, 167, 0, 129, 6, 16, 8, 21, 4, 104, 43, 17, 1, 20, 29, 96, 46, 96, 104, 54, 5, 42, 43, 42]
abbrev dktX6_handsDo_2 : List UInt8 := dkwX6_handsDo_2 ++ dktX6_handsDo_3
def dkwX6_handsDo_1 : List UInt8 := [28, 104, 29, 96, 54, 4, 43, 17, 1, 28, 29, 96, 46, 4, 160, 0, 14, 43, 17, 1, 28, 29, 96, 3]
abbrev dktX6_handsDo_1 : List UInt8 := dkwX6_handsDo_1 ++ dktX6_handsDo_2
def dkwX6_handsDo_0 : List UInt8 := [43, 17, 1, 19, 46, 61, 3, 62, 28, 2, 159, 0, 174, 29, 42, 180, 1, 10, 28, 46, 162, 0, 164, 7]
abbrev dktX6_handsDo_0 : List UInt8 := dkwX6_handsDo_0 ++ dktX6_handsDo_1
theorem dksX6_handsDo_0 : cX6_handsDo.data.toList.drop 0 = dktX6_handsDo_0 := by decide +kernel
theorem dksX6_handsDo_1 : cX6_handsDo.data.toList.drop 24 = dktX6_handsDo_1 := dk_seg dksX6_handsDo_0 24 rfl rfl
theorem dksX6_handsDo_2 : cX6_handsDo.data.toList.drop 48 = dktX6_handsDo_2 := dk_seg dksX6_handsDo_1 24 rfl rfl
theorem dksX6_handsDo_3 : cX6_handsDo.data.toList.drop 72 = dktX6_handsDo_3 := dk_seg dksX6_handsDo_2 24 rfl rfl
theorem dksX6_handsDo_4 : cX6_handsDo.data.toList.drop 96 = dktX6_handsDo_4 := dk_seg dksX6_handsDo_3 24 rfl rfl
theorem dksX6_handsDo_5 : cX6_handsDo.data.toList.drop 120 = dktX6_handsDo_5 := dk_seg dksX6_handsDo_4 24 rfl rfl
theorem dksX6_handsDo_6 : cX6_handsDo.data.toList.drop 144 = dktX6_handsDo_6 := dk_seg dksX6_handsDo_5 24 rfl rfl
theorem dksX6_handsDo_7 : cX6_handsDo.data.toList.drop 168 = dktX6_handsDo_7 := dk_seg dksX6_handsDo_6 24 rfl rfl
theorem dX6_handsDo_0 : decode cX6_handsDo 0 = .ok (.aload_n 1, 1) := dk_43 (dk_at dksX6_handsDo_0 0 rfl rfl)
theorem dX6_handsDo_1 : decode cX6_handsDo 1 = .ok (.sipush 275, 3) := dk_17 1 19 (dk_at dksX6_handsDo_0 1 rfl rfl)
theorem dX6_handsDo_4 : decode cX6_handsDo 4 = .ok (.iaload, 1) := dk_46 (dk_at dksX6_handsDo_0 4 rfl rfl)
theorem dX6_handsDo_5 : decode cX6_handsDo 5 = .ok (.istore_n 2, 1) := dk_61 (dk_at dksX6_handsDo_0 5 rfl rfl)
theorem dX6_handsDo_6 : decode cX6_handsDo 6 = .ok (.iconst 0, 1) := dk_3 (dk_at dksX6_handsDo_0 6 rfl rfl)
theorem dX6_handsDo_7 : decode cX6_handsDo 7 = .ok (.istore_n 3, 1) := dk_62 (dk_at dksX6_handsDo_0 7 rfl rfl)
theorem dX6_handsDo_8 : decode cX6_handsDo 8 = .ok (.iload_n 2, 1) := dk_28 (dk_at dksX6_handsDo_0 8 rfl rfl)
theorem dX6_handsDo_9 : decode cX6_handsDo 9 = .ok (.iconst (-1), 1) := dk_2 (dk_at dksX6_handsDo_0 9 rfl rfl)
theorem dX6_handsDo_10 : decode cX6_handsDo 10 = .ok (.if_icmp .eq 174, 3) := dk_159 0 174 (dk_at dksX6_handsDo_0 10 rfl rfl)
theorem dX6_handsDo_13 : decode cX6_handsDo 13 = .ok (.iload_n 3, 1) := dk_29 (dk_at dksX6_handsDo_0 13 rfl rfl)
theorem dX6_handsDo_14 : decode cX6_handsDo 14 = .ok (.aload_n 0, 1) := dk_42 (dk_at dksX6_handsDo_0 14 rfl rfl)
theorem dX6_handsDo_15 : decode cX6_handsDo 15 = .ok (.getfield 266, 3) := dk_180 1 10 (dk_at dksX6_handsDo_0 15 rfl rfl)
theorem dX6_handsDo_18 : decode cX6_handsDo 18 = .ok (.iload_n 2, 1) := dk_28 (dk_at dksX6_handsDo_0 18 rfl rfl)
theorem dX6_handsDo_19 : decode cX6_handsDo 19 = .ok (.iaload, 1) := dk_46 (dk_at dksX6_handsDo_0 19 rfl rfl)
theorem dX6_handsDo_20 : decode cX6_handsDo 20 = .ok (.if_icmp .ge 164, 3) := dk_162 0 164 (dk_at dksX6_handsDo_0 20 rfl rfl)
theorem dX6_handsDo_23 : decode cX6_handsDo 23 = .ok (.iconst 4, 1) := dk_7 (dk_at dksX6_handsDo_0 23 rfl rfl)
theorem dX6_handsDo_24 : decode cX6_handsDo 24 = .ok (.iload_n 2, 1) := dk_28 (dk_at dksX6_handsDo_1 0 rfl rfl)
theorem dX6_handsDo_25 : decode cX6_handsDo 25 = .ok (.imul, 1) := dk_104 (dk_at dksX6_handsDo_1 1 rfl rfl)
theorem dX6_handsDo_26 : decode cX6_handsDo 26 = .ok (.iload_n 3, 1) := dk_29 (dk_at dksX6_handsDo_1 2 rfl rfl)
theorem dX6_handsDo_27 : decode cX6_handsDo 27 = .ok (.iadd, 1) := dk_96 (dk_at dksX6_handsDo_1 3 rfl rfl)
theorem dX6_handsDo_28 : decode cX6_handsDo 28 = .ok (.istore 4, 2) := dk_54 4 (dk_at dksX6_handsDo_1 4 rfl rfl)
theorem dX6_handsDo_30 : decode cX6_handsDo 30 = .ok (.aload_n 1, 1) := dk_43 (dk_at dksX6_handsDo_1 6 rfl rfl)
theorem dX6_handsDo_31 : decode cX6_handsDo 31 = .ok (.sipush 284, 3) := dk_17 1 28 (dk_at dksX6_handsDo_1 7 rfl rfl)
theorem dX6_handsDo_34 : decode cX6_handsDo 34 = .ok (.iload_n 3, 1) := dk_29 (dk_at dksX6_handsDo_1 10 rfl rfl)
theorem dX6_handsDo_35 : decode cX6_handsDo 35 = .ok (.iadd, 1) := dk_96 (dk_at dksX6_handsDo_1 11 rfl rfl)
theorem dX6_handsDo_36 : decode cX6_handsDo 36 = .ok (.iaload, 1) := dk_46 (dk_at dksX6_handsDo_1 12 rfl rfl)
theorem dX6_handsDo_37 : decode cX6_handsDo 37 = .ok (.iconst 1, 1) := dk_4 (dk_at dksX6_handsDo_1 13 rfl rfl)
theorem dX6_handsDo_38 : decode cX6_handsDo 38 = .ok (.if_icmp .ne 14, 3) := dk_160 0 14 (dk_at dksX6_handsDo_1 14 rfl rfl)
theorem dX6_handsDo_41 : decode cX6_handsDo 41 = .ok (.aload_n 1, 1) := dk_43 (dk_at dksX6_handsDo_1 17 rfl rfl)
theorem dX6_handsDo_42 : decode cX6_handsDo 42 = .ok (.sipush 284, 3) := dk_17 1 28 (dk_at dksX6_handsDo_1 18 rfl rfl)
theorem dX6_handsDo_45 : decode cX6_handsDo 45 = .ok (.iload_n 3, 1) := dk_29 (dk_at dksX6_handsDo_1 21 rfl rfl)
theorem dX6_handsDo_46 : decode cX6_handsDo 46 = .ok (.iadd, 1) := dk_96 (dk_at dksX6_handsDo_1 22 rfl rfl)
theorem dX6_handsDo_47 : decode cX6_handsDo 47 = .ok (.iconst 0, 1) := dk_3 (dk_at dksX6_handsDo_1 23 rfl rfl)
theorem dX6_handsDo_48 : decode cX6_handsDo 48 = .ok (.iastore, 1) := dk_79 (dk_at dksX6_handsDo_2 0 rfl rfl)
theorem dX6_handsDo_49 : decode cX6_handsDo 49 = .ok (.goto 129, 3) := dk_167 0 129 (dk_at dksX6_handsDo_2 1 rfl rfl)
theorem dX6_handsDo_52 : decode cX6_handsDo 52 = .ok (.iconst 3, 1) := dk_6 (dk_at dksX6_handsDo_2 4 rfl rfl)
theorem dX6_handsDo_53 : decode cX6_handsDo 53 = .ok (.bipush 8, 2) := dk_16 8 (dk_at dksX6_handsDo_2 5 rfl rfl)
theorem dX6_handsDo_55 : decode cX6_handsDo 55 = .ok (.iload 4, 2) := dk_21 4 (dk_at dksX6_handsDo_2 7 rfl rfl)
theorem dX6_handsDo_57 : decode cX6_handsDo 57 = .ok (.imul, 1) := dk_104 (dk_at dksX6_handsDo_2 9 rfl rfl)
theorem dX6_handsDo_58 : decode cX6_handsDo 58 = .ok (.aload_n 1, 1) := dk_43 (dk_at dksX6_handsDo_2 10 rfl rfl)
theorem dX6_handsDo_59 : decode cX6_handsDo 59 = .ok (.sipush 276, 3) := dk_17 1 20 (dk_at dksX6_handsDo_2 11 rfl rfl)
theorem dX6_handsDo_62 : decode cX6_handsDo 62 = .ok (.iload_n 3, 1) := dk_29 (dk_at dksX6_handsDo_2 14 rfl rfl)
theorem dX6_handsDo_63 : decode cX6_handsDo 63 = .ok (.iadd, 1) := dk_96 (dk_at dksX6_handsDo_2 15 rfl rfl)
theorem dX6_handsDo_64 : decode cX6_handsDo 64 = .ok (.iaload, 1) := dk_46 (dk_at dksX6_handsDo_2 16 rfl rfl)
theorem dX6_handsDo_65 : decode cX6_handsDo 65 = .ok (.iadd, 1) := dk_96 (dk_at dksX6_handsDo_2 17 rfl rfl)
theorem dX6_handsDo_66 : decode cX6_handsDo 66 = .ok (.imul, 1) := dk_104 (dk_at dksX6_handsDo_2 18 rfl rfl)
theorem dX6_handsDo_67 : decode cX6_handsDo 67 = .ok (.istore 5, 2) := dk_54 5 (dk_at dksX6_handsDo_2 19 rfl rfl)
theorem dX6_handsDo_69 : decode cX6_handsDo 69 = .ok (.aload_n 0, 1) := dk_42 (dk_at dksX6_handsDo_2 21 rfl rfl)
theorem dX6_handsDo_70 : decode cX6_handsDo 70 = .ok (.aload_n 1, 1) := dk_43 (dk_at dksX6_handsDo_2 22 rfl rfl)
theorem dX6_handsDo_71 : decode cX6_handsDo 71 = .ok (.aload_n 0, 1) := dk_42 (dk_at dksX6_handsDo_2 23 rfl rfl)
theorem dX6_handsDo_72 : decode cX6_handsDo 72 = .ok (.getfield 207, 3) := dk_180 0 207 (dk_at dksX6_handsDo_3 0 rfl rfl)
theorem dX6_handsDo_75 : decode cX6_handsDo 75 = .ok (.iload 5, 2) := dk_21 5 (dk_at dksX6_handsDo_3 3 rfl rfl)
theorem dX6_handsDo_77 : decode cX6_handsDo 77 = .ok (.iaload, 1) := dk_46 (dk_at dksX6_handsDo_3 5 rfl rfl)
theorem dX6_handsDo_78 : decode cX6_handsDo 78 = .ok (.aload_n 0, 1) := dk_42 (dk_at dksX6_handsDo_3 6 rfl rfl)
theorem dX6_handsDo_79 : decode cX6_handsDo 79 = .ok (.getfield 207, 3) := dk_180 0 207 (dk_at dksX6_handsDo_3 7 rfl rfl)
theorem dX6_handsDo_82 : decode cX6_handsDo 82 = .ok (.iload 5, 2) := dk_21 5 (dk_at dksX6_handsDo_3 10 rfl rfl)
theorem dX6_handsDo_84 : decode cX6_handsDo 84 = .ok (.iconst 1, 1) := dk_4 (dk_at dksX6_handsDo_3 12 rfl rfl)
theorem dX6_handsDo_85 : decode cX6_handsDo 85 = .ok (.iadd, 1) := dk_96 (dk_at dksX6_handsDo_3 13 rfl rfl)
theorem dX6_handsDo_86 : decode cX6_handsDo 86 = .ok (.iaload, 1) := dk_46 (dk_at dksX6_handsDo_3 14 rfl rfl)
theorem dX6_handsDo_87 : decode cX6_handsDo 87 = .ok (.aload_n 0, 1) := dk_42 (dk_at dksX6_handsDo_3 15 rfl rfl)
theorem dX6_handsDo_88 : decode cX6_handsDo 88 = .ok (.getfield 207, 3) := dk_180 0 207 (dk_at dksX6_handsDo_3 16 rfl rfl)
theorem dX6_handsDo_91 : decode cX6_handsDo 91 = .ok (.iload 5, 2) := dk_21 5 (dk_at dksX6_handsDo_3 19 rfl rfl)
theorem dX6_handsDo_93 : decode cX6_handsDo 93 = .ok (.iconst 2, 1) := dk_5 (dk_at dksX6_handsDo_3 21 rfl rfl)
theorem dX6_handsDo_94 : decode cX6_handsDo 94 = .ok (.iadd, 1) := dk_96 (dk_at dksX6_handsDo_3 22 rfl rfl)
theorem dX6_handsDo_95 : decode cX6_handsDo 95 = .ok (.iaload, 1) := dk_46 (dk_at dksX6_handsDo_3 23 rfl rfl)
theorem dX6_handsDo_96 : decode cX6_handsDo 96 = .ok (.invokevirtual 373, 3) := dk_182 1 117 (dk_at dksX6_handsDo_4 0 rfl rfl)
theorem dX6_handsDo_99 : decode cX6_handsDo 99 = .ok (.aload_n 1, 1) := dk_43 (dk_at dksX6_handsDo_4 3 rfl rfl)
theorem dX6_handsDo_100 : decode cX6_handsDo 100 = .ok (.sipush 276, 3) := dk_17 1 20 (dk_at dksX6_handsDo_4 4 rfl rfl)
theorem dX6_handsDo_103 : decode cX6_handsDo 103 = .ok (.iload_n 3, 1) := dk_29 (dk_at dksX6_handsDo_4 7 rfl rfl)
theorem dX6_handsDo_104 : decode cX6_handsDo 104 = .ok (.iadd, 1) := dk_96 (dk_at dksX6_handsDo_4 8 rfl rfl)
theorem dX6_handsDo_105 : decode cX6_handsDo 105 = .ok (.aload_n 1, 1) := dk_43 (dk_at dksX6_handsDo_4 9 rfl rfl)
theorem dX6_handsDo_106 : decode cX6_handsDo 106 = .ok (.sipush 276, 3) := dk_17 1 20 (dk_at dksX6_handsDo_4 10 rfl rfl)
theorem dX6_handsDo_109 : decode cX6_handsDo 109 = .ok (.iload_n 3, 1) := dk_29 (dk_at dksX6_handsDo_4 13 rfl rfl)
theorem dX6_handsDo_110 : decode cX6_handsDo 110 = .ok (.iadd, 1) := dk_96 (dk_at dksX6_handsDo_4 14 rfl rfl)
theorem dX6_handsDo_111 : decode cX6_handsDo 111 = .ok (.iaload, 1) := dk_46 (dk_at dksX6_handsDo_4 15 rfl rfl)
theorem dX6_handsDo_112 : decode cX6_handsDo 112 = .ok (.iconst 1, 1) := dk_4 (dk_at dksX6_handsDo_4 16 rfl rfl)
theorem dX6_handsDo_113 : decode cX6_handsDo 113 = .ok (.iadd, 1) := dk_96 (dk_at dksX6_handsDo_4 17 rfl rfl)
theorem dX6_handsDo_114 : decode cX6_handsDo 114 = .ok (.aload_n 0, 1) := dk_42 (dk_at dksX6_handsDo_4 18 rfl rfl)
theorem dX6_handsDo_115 : decode cX6_handsDo 115 = .ok (.getfield 228, 3) := dk_180 0 228 (dk_at dksX6_handsDo_4 19 rfl rfl)
theorem dX6_handsDo_118 : decode cX6_handsDo 118 = .ok (.iload 4, 2) := dk_21 4 (dk_at dksX6_handsDo_4 22 rfl rfl)
theorem dX6_handsDo_120 : decode cX6_handsDo 120 = .ok (.iaload, 1) := dk_46 (dk_at dksX6_handsDo_5 0 rfl rfl)
theorem dX6_handsDo_121 : decode cX6_handsDo 121 = .ok (.irem, 1) := dk_112 (dk_at dksX6_handsDo_5 1 rfl rfl)
theorem dX6_handsDo_122 : decode cX6_handsDo 122 = .ok (.iastore, 1) := dk_79 (dk_at dksX6_handsDo_5 2 rfl rfl)
theorem dX6_handsDo_123 : decode cX6_handsDo 123 = .ok (.aload_n 1, 1) := dk_43 (dk_at dksX6_handsDo_5 3 rfl rfl)
theorem dX6_handsDo_124 : decode cX6_handsDo 124 = .ok (.sipush 280, 3) := dk_17 1 24 (dk_at dksX6_handsDo_5 4 rfl rfl)
theorem dX6_handsDo_127 : decode cX6_handsDo 127 = .ok (.iload_n 3, 1) := dk_29 (dk_at dksX6_handsDo_5 7 rfl rfl)
theorem dX6_handsDo_128 : decode cX6_handsDo 128 = .ok (.iadd, 1) := dk_96 (dk_at dksX6_handsDo_5 8 rfl rfl)
theorem dX6_handsDo_129 : decode cX6_handsDo 129 = .ok (.dup2, 1) := dk_92 (dk_at dksX6_handsDo_5 9 rfl rfl)
theorem dX6_handsDo_130 : decode cX6_handsDo 130 = .ok (.iaload, 1) := dk_46 (dk_at dksX6_handsDo_5 10 rfl rfl)
theorem dX6_handsDo_131 : decode cX6_handsDo 131 = .ok (.iconst 1, 1) := dk_4 (dk_at dksX6_handsDo_5 11 rfl rfl)
theorem dX6_handsDo_132 : decode cX6_handsDo 132 = .ok (.iadd, 1) := dk_96 (dk_at dksX6_handsDo_5 12 rfl rfl)
theorem dX6_handsDo_133 : decode cX6_handsDo 133 = .ok (.iastore, 1) := dk_79 (dk_at dksX6_handsDo_5 13 rfl rfl)
theorem dX6_handsDo_134 : decode cX6_handsDo 134 = .ok (.aload_n 0, 1) := dk_42 (dk_at dksX6_handsDo_5 14 rfl rfl)
theorem dX6_handsDo_135 : decode cX6_handsDo 135 = .ok (.getfield 245, 3) := dk_180 0 245 (dk_at dksX6_handsDo_5 15 rfl rfl)
theorem dX6_handsDo_138 : decode cX6_handsDo 138 = .ok (.iconst 5, 1) := dk_8 (dk_at dksX6_handsDo_5 18 rfl rfl)
theorem dX6_handsDo_139 : decode cX6_handsDo 139 = .ok (.iaload, 1) := dk_46 (dk_at dksX6_handsDo_5 19 rfl rfl)
theorem dX6_handsDo_140 : decode cX6_handsDo 140 = .ok (.ifCond .eq 38, 3) := dk_153 0 38 (dk_at dksX6_handsDo_5 20 rfl rfl)
theorem dX6_handsDo_143 : decode cX6_handsDo 143 = .ok (.aload_n 1, 1) := dk_43 (dk_at dksX6_handsDo_5 23 rfl rfl)
theorem dX6_handsDo_144 : decode cX6_handsDo 144 = .ok (.sipush 280, 3) := dk_17 1 24 (dk_at dksX6_handsDo_6 0 rfl rfl)
theorem dX6_handsDo_147 : decode cX6_handsDo 147 = .ok (.iload_n 3, 1) := dk_29 (dk_at dksX6_handsDo_6 3 rfl rfl)
theorem dX6_handsDo_148 : decode cX6_handsDo 148 = .ok (.iadd, 1) := dk_96 (dk_at dksX6_handsDo_6 4 rfl rfl)
theorem dX6_handsDo_149 : decode cX6_handsDo 149 = .ok (.iaload, 1) := dk_46 (dk_at dksX6_handsDo_6 5 rfl rfl)
theorem dX6_handsDo_150 : decode cX6_handsDo 150 = .ok (.aload_n 0, 1) := dk_42 (dk_at dksX6_handsDo_6 6 rfl rfl)
theorem dX6_handsDo_151 : decode cX6_handsDo 151 = .ok (.getfield 245, 3) := dk_180 0 245 (dk_at dksX6_handsDo_6 7 rfl rfl)
theorem dX6_handsDo_154 : decode cX6_handsDo 154 = .ok (.iconst 5, 1) := dk_8 (dk_at dksX6_handsDo_6 10 rfl rfl)
theorem dX6_handsDo_155 : decode cX6_handsDo 155 = .ok (.iaload, 1) := dk_46 (dk_at dksX6_handsDo_6 11 rfl rfl)
theorem dX6_handsDo_156 : decode cX6_handsDo 156 = .ok (.if_icmp .ge 6, 3) := dk_162 0 6 (dk_at dksX6_handsDo_6 12 rfl rfl)
theorem dX6_handsDo_159 : decode cX6_handsDo 159 = .ok (.goto 19, 3) := dk_167 0 19 (dk_at dksX6_handsDo_6 15 rfl rfl)
theorem dX6_handsDo_162 : decode cX6_handsDo 162 = .ok (.aload_n 1, 1) := dk_43 (dk_at dksX6_handsDo_6 18 rfl rfl)
theorem dX6_handsDo_163 : decode cX6_handsDo 163 = .ok (.sipush 280, 3) := dk_17 1 24 (dk_at dksX6_handsDo_6 19 rfl rfl)
theorem dX6_handsDo_166 : decode cX6_handsDo 166 = .ok (.iload_n 3, 1) := dk_29 (dk_at dksX6_handsDo_6 22 rfl rfl)
theorem dX6_handsDo_167 : decode cX6_handsDo 167 = .ok (.iadd, 1) := dk_96 (dk_at dksX6_handsDo_6 23 rfl rfl)
theorem dX6_handsDo_168 : decode cX6_handsDo 168 = .ok (.iconst 0, 1) := dk_3 (dk_at dksX6_handsDo_7 0 rfl rfl)
theorem dX6_handsDo_169 : decode cX6_handsDo 169 = .ok (.iastore, 1) := dk_79 (dk_at dksX6_handsDo_7 1 rfl rfl)
theorem dX6_handsDo_170 : decode cX6_handsDo 170 = .ok (.aload_n 1, 1) := dk_43 (dk_at dksX6_handsDo_7 2 rfl rfl)
theorem dX6_handsDo_171 : decode cX6_handsDo 171 = .ok (.sipush 284, 3) := dk_17 1 28 (dk_at dksX6_handsDo_7 3 rfl rfl)
theorem dX6_handsDo_174 : decode cX6_handsDo 174 = .ok (.iload_n 3, 1) := dk_29 (dk_at dksX6_handsDo_7 6 rfl rfl)
theorem dX6_handsDo_175 : decode cX6_handsDo 175 = .ok (.iadd, 1) := dk_96 (dk_at dksX6_handsDo_7 7 rfl rfl)
theorem dX6_handsDo_176 : decode cX6_handsDo 176 = .ok (.iconst 1, 1) := dk_4 (dk_at dksX6_handsDo_7 8 rfl rfl)
theorem dX6_handsDo_177 : decode cX6_handsDo 177 = .ok (.iastore, 1) := dk_79 (dk_at dksX6_handsDo_7 9 rfl rfl)
theorem dX6_handsDo_178 : decode cX6_handsDo 178 = .ok (.iinc 3 1, 3) := dk_132 3 1 (dk_at dksX6_handsDo_7 10 rfl rfl)
theorem dX6_handsDo_181 : decode cX6_handsDo 181 = .ok (.goto (-173), 3) := dk_167 255 83 (dk_at dksX6_handsDo_7 13 rfl rfl)
theorem dX6_handsDo_184 : decode cX6_handsDo 184 = .ok (.return_, 1) := dk_177 (dk_at dksX6_handsDo_7 16 rfl rfl)
abbrev cX6_does : ByteArray := prog_16_method_49_code
def yX6_does : MethodName := ⟨RX6, "does", "([IIII)V"⟩
def dkwX6_does_6 : List UInt8 := [167, 0, 14, 43, 17, 0, 192, 29, 96, 4, 79, 167, 0, 3, 177]
abbrev dktX6_does_6 : List UInt8 := dkwX6_does_6 ++ []
def dkwX6_does_5 : List UInt8 := [167, 0, 36, 43, 16, 64, 29, 96, 16, 15, 43, 16, 64, 29, 96, 46, 7, 96, 184, 1, 114, 79]
abbrev dktX6_does_5 : List UInt8 := dkwX6_does_5 ++ dktX6_does_6
def dkwX6_does_4 : List UInt8 := [79, 167, 0, 59, 43, 17, 0, 128, 29, 96, 7, 43, 17, 0, 128, 29, 96, 46, 4, 96, 184, 1, 114, 79]
abbrev dktX6_does_4 : List UInt8 := dkwX6_does_4 ++ dktX6_does_5
def dkwX6_does_3 : List UInt8 := [21, 4, 96, 46, 4, 160, 0, 4, 177, 42, 43, 29, 21, 4, 182, 1, 110, 43, 17, 0, 128, 29, 96, 3]
abbrev dktX6_does_3 : List UInt8 := dkwX6_does_3 ++ dktX6_does_4
def dkwX6_does_2 : List UInt8 := [43, 3, 29, 96, 46, 153, 0, 26, 43, 17, 0, 192, 29, 96, 46, 4, 159, 0, 15, 43, 17, 0, 192]
abbrev dktX6_does_2 : List UInt8 := dkwX6_does_2 ++ dktX6_does_3
def dkwX6_does_1 : List UInt8 := [170, 0, 0, 0, 0, 0, 138, 0, 0, 0, 0, 0, 0, 0, 3, 0, 0, 0, 31, 0, 0, 0, 82, 0, 0, 0, 105, 0, 0, 0, 127]
abbrev dktX6_does_1 : List UInt8 := dkwX6_does_1 ++ dktX6_does_2
def dkwX6_does_0 : List UInt8 := [28]
abbrev dktX6_does_0 : List UInt8 := dkwX6_does_0 ++ dktX6_does_1
theorem dksX6_does_0 : cX6_does.data.toList.drop 0 = dktX6_does_0 := by decide +kernel
theorem dksX6_does_1 : cX6_does.data.toList.drop 1 = dktX6_does_1 := dk_seg dksX6_does_0 1 rfl rfl
theorem dksX6_does_2 : cX6_does.data.toList.drop 32 = dktX6_does_2 := dk_seg dksX6_does_1 31 rfl rfl
theorem dksX6_does_3 : cX6_does.data.toList.drop 55 = dktX6_does_3 := dk_seg dksX6_does_2 23 rfl rfl
theorem dksX6_does_4 : cX6_does.data.toList.drop 79 = dktX6_does_4 := dk_seg dksX6_does_3 24 rfl rfl
theorem dksX6_does_5 : cX6_does.data.toList.drop 103 = dktX6_does_5 := dk_seg dksX6_does_4 24 rfl rfl
theorem dksX6_does_6 : cX6_does.data.toList.drop 125 = dktX6_does_6 := dk_seg dksX6_does_5 22 rfl rfl
theorem dX6_does_0 : decode cX6_does 0 = .ok (.iload_n 2, 1) := dk_28 (dk_at dksX6_does_0 0 rfl rfl)
theorem dX6_does_1 : decode cX6_does 1 = .ok (.tableswitch 138 0 3 #[31, 82, 105, 127], 31) := by decide +kernel
theorem dX6_does_32 : decode cX6_does 32 = .ok (.aload_n 1, 1) := dk_43 (dk_at dksX6_does_2 0 rfl rfl)
theorem dX6_does_33 : decode cX6_does 33 = .ok (.iconst 0, 1) := dk_3 (dk_at dksX6_does_2 1 rfl rfl)
theorem dX6_does_34 : decode cX6_does 34 = .ok (.iload_n 3, 1) := dk_29 (dk_at dksX6_does_2 2 rfl rfl)
theorem dX6_does_35 : decode cX6_does 35 = .ok (.iadd, 1) := dk_96 (dk_at dksX6_does_2 3 rfl rfl)
theorem dX6_does_36 : decode cX6_does 36 = .ok (.iaload, 1) := dk_46 (dk_at dksX6_does_2 4 rfl rfl)
theorem dX6_does_37 : decode cX6_does 37 = .ok (.ifCond .eq 26, 3) := dk_153 0 26 (dk_at dksX6_does_2 5 rfl rfl)
theorem dX6_does_40 : decode cX6_does 40 = .ok (.aload_n 1, 1) := dk_43 (dk_at dksX6_does_2 8 rfl rfl)
theorem dX6_does_41 : decode cX6_does 41 = .ok (.sipush 192, 3) := dk_17 0 192 (dk_at dksX6_does_2 9 rfl rfl)
theorem dX6_does_44 : decode cX6_does 44 = .ok (.iload_n 3, 1) := dk_29 (dk_at dksX6_does_2 12 rfl rfl)
theorem dX6_does_45 : decode cX6_does 45 = .ok (.iadd, 1) := dk_96 (dk_at dksX6_does_2 13 rfl rfl)
theorem dX6_does_46 : decode cX6_does 46 = .ok (.iaload, 1) := dk_46 (dk_at dksX6_does_2 14 rfl rfl)
theorem dX6_does_47 : decode cX6_does 47 = .ok (.iconst 1, 1) := dk_4 (dk_at dksX6_does_2 15 rfl rfl)
theorem dX6_does_48 : decode cX6_does 48 = .ok (.if_icmp .eq 15, 3) := dk_159 0 15 (dk_at dksX6_does_2 16 rfl rfl)
theorem dX6_does_51 : decode cX6_does 51 = .ok (.aload_n 1, 1) := dk_43 (dk_at dksX6_does_2 19 rfl rfl)
theorem dX6_does_52 : decode cX6_does 52 = .ok (.sipush 192, 3) := dk_17 0 192 (dk_at dksX6_does_2 20 rfl rfl)
theorem dX6_does_55 : decode cX6_does 55 = .ok (.iload 4, 2) := dk_21 4 (dk_at dksX6_does_3 0 rfl rfl)
theorem dX6_does_57 : decode cX6_does 57 = .ok (.iadd, 1) := dk_96 (dk_at dksX6_does_3 2 rfl rfl)
theorem dX6_does_58 : decode cX6_does 58 = .ok (.iaload, 1) := dk_46 (dk_at dksX6_does_3 3 rfl rfl)
theorem dX6_does_59 : decode cX6_does 59 = .ok (.iconst 1, 1) := dk_4 (dk_at dksX6_does_3 4 rfl rfl)
theorem dX6_does_60 : decode cX6_does 60 = .ok (.if_icmp .ne 4, 3) := dk_160 0 4 (dk_at dksX6_does_3 5 rfl rfl)
theorem dX6_does_63 : decode cX6_does 63 = .ok (.return_, 1) := dk_177 (dk_at dksX6_does_3 8 rfl rfl)
theorem dX6_does_64 : decode cX6_does 64 = .ok (.aload_n 0, 1) := dk_42 (dk_at dksX6_does_3 9 rfl rfl)
theorem dX6_does_65 : decode cX6_does 65 = .ok (.aload_n 1, 1) := dk_43 (dk_at dksX6_does_3 10 rfl rfl)
theorem dX6_does_66 : decode cX6_does 66 = .ok (.iload_n 3, 1) := dk_29 (dk_at dksX6_does_3 11 rfl rfl)
theorem dX6_does_67 : decode cX6_does 67 = .ok (.iload 4, 2) := dk_21 4 (dk_at dksX6_does_3 12 rfl rfl)
theorem dX6_does_69 : decode cX6_does 69 = .ok (.invokevirtual 366, 3) := dk_182 1 110 (dk_at dksX6_does_3 14 rfl rfl)
theorem dX6_does_72 : decode cX6_does 72 = .ok (.aload_n 1, 1) := dk_43 (dk_at dksX6_does_3 17 rfl rfl)
theorem dX6_does_73 : decode cX6_does 73 = .ok (.sipush 128, 3) := dk_17 0 128 (dk_at dksX6_does_3 18 rfl rfl)
theorem dX6_does_76 : decode cX6_does 76 = .ok (.iload_n 3, 1) := dk_29 (dk_at dksX6_does_3 21 rfl rfl)
theorem dX6_does_77 : decode cX6_does 77 = .ok (.iadd, 1) := dk_96 (dk_at dksX6_does_3 22 rfl rfl)
theorem dX6_does_78 : decode cX6_does 78 = .ok (.iconst 0, 1) := dk_3 (dk_at dksX6_does_3 23 rfl rfl)
theorem dX6_does_79 : decode cX6_does 79 = .ok (.iastore, 1) := dk_79 (dk_at dksX6_does_4 0 rfl rfl)
theorem dX6_does_80 : decode cX6_does 80 = .ok (.goto 59, 3) := dk_167 0 59 (dk_at dksX6_does_4 1 rfl rfl)
theorem dX6_does_83 : decode cX6_does 83 = .ok (.aload_n 1, 1) := dk_43 (dk_at dksX6_does_4 4 rfl rfl)
theorem dX6_does_84 : decode cX6_does 84 = .ok (.sipush 128, 3) := dk_17 0 128 (dk_at dksX6_does_4 5 rfl rfl)
theorem dX6_does_87 : decode cX6_does 87 = .ok (.iload_n 3, 1) := dk_29 (dk_at dksX6_does_4 8 rfl rfl)
theorem dX6_does_88 : decode cX6_does 88 = .ok (.iadd, 1) := dk_96 (dk_at dksX6_does_4 9 rfl rfl)
theorem dX6_does_89 : decode cX6_does 89 = .ok (.iconst 4, 1) := dk_7 (dk_at dksX6_does_4 10 rfl rfl)
theorem dX6_does_90 : decode cX6_does 90 = .ok (.aload_n 1, 1) := dk_43 (dk_at dksX6_does_4 11 rfl rfl)
theorem dX6_does_91 : decode cX6_does 91 = .ok (.sipush 128, 3) := dk_17 0 128 (dk_at dksX6_does_4 12 rfl rfl)
theorem dX6_does_94 : decode cX6_does 94 = .ok (.iload_n 3, 1) := dk_29 (dk_at dksX6_does_4 15 rfl rfl)
theorem dX6_does_95 : decode cX6_does 95 = .ok (.iadd, 1) := dk_96 (dk_at dksX6_does_4 16 rfl rfl)
theorem dX6_does_96 : decode cX6_does 96 = .ok (.iaload, 1) := dk_46 (dk_at dksX6_does_4 17 rfl rfl)
theorem dX6_does_97 : decode cX6_does 97 = .ok (.iconst 1, 1) := dk_4 (dk_at dksX6_does_4 18 rfl rfl)
theorem dX6_does_98 : decode cX6_does 98 = .ok (.iadd, 1) := dk_96 (dk_at dksX6_does_4 19 rfl rfl)
theorem dX6_does_99 : decode cX6_does 99 = .ok (.invokestatic 370, 3) := dk_184 1 114 (dk_at dksX6_does_4 20 rfl rfl)
theorem dX6_does_102 : decode cX6_does 102 = .ok (.iastore, 1) := dk_79 (dk_at dksX6_does_4 23 rfl rfl)
theorem dX6_does_103 : decode cX6_does 103 = .ok (.goto 36, 3) := dk_167 0 36 (dk_at dksX6_does_5 0 rfl rfl)
theorem dX6_does_106 : decode cX6_does 106 = .ok (.aload_n 1, 1) := dk_43 (dk_at dksX6_does_5 3 rfl rfl)
theorem dX6_does_107 : decode cX6_does 107 = .ok (.bipush 64, 2) := dk_16 64 (dk_at dksX6_does_5 4 rfl rfl)
theorem dX6_does_109 : decode cX6_does 109 = .ok (.iload_n 3, 1) := dk_29 (dk_at dksX6_does_5 6 rfl rfl)
theorem dX6_does_110 : decode cX6_does 110 = .ok (.iadd, 1) := dk_96 (dk_at dksX6_does_5 7 rfl rfl)
theorem dX6_does_111 : decode cX6_does 111 = .ok (.bipush 15, 2) := dk_16 15 (dk_at dksX6_does_5 8 rfl rfl)
theorem dX6_does_113 : decode cX6_does 113 = .ok (.aload_n 1, 1) := dk_43 (dk_at dksX6_does_5 10 rfl rfl)
theorem dX6_does_114 : decode cX6_does 114 = .ok (.bipush 64, 2) := dk_16 64 (dk_at dksX6_does_5 11 rfl rfl)
theorem dX6_does_116 : decode cX6_does 116 = .ok (.iload_n 3, 1) := dk_29 (dk_at dksX6_does_5 13 rfl rfl)
theorem dX6_does_117 : decode cX6_does 117 = .ok (.iadd, 1) := dk_96 (dk_at dksX6_does_5 14 rfl rfl)
theorem dX6_does_118 : decode cX6_does 118 = .ok (.iaload, 1) := dk_46 (dk_at dksX6_does_5 15 rfl rfl)
theorem dX6_does_119 : decode cX6_does 119 = .ok (.iconst 4, 1) := dk_7 (dk_at dksX6_does_5 16 rfl rfl)
theorem dX6_does_120 : decode cX6_does 120 = .ok (.iadd, 1) := dk_96 (dk_at dksX6_does_5 17 rfl rfl)
theorem dX6_does_121 : decode cX6_does 121 = .ok (.invokestatic 370, 3) := dk_184 1 114 (dk_at dksX6_does_5 18 rfl rfl)
theorem dX6_does_124 : decode cX6_does 124 = .ok (.iastore, 1) := dk_79 (dk_at dksX6_does_5 21 rfl rfl)
theorem dX6_does_125 : decode cX6_does 125 = .ok (.goto 14, 3) := dk_167 0 14 (dk_at dksX6_does_6 0 rfl rfl)
theorem dX6_does_128 : decode cX6_does 128 = .ok (.aload_n 1, 1) := dk_43 (dk_at dksX6_does_6 3 rfl rfl)
theorem dX6_does_129 : decode cX6_does 129 = .ok (.sipush 192, 3) := dk_17 0 192 (dk_at dksX6_does_6 4 rfl rfl)
theorem dX6_does_132 : decode cX6_does 132 = .ok (.iload_n 3, 1) := dk_29 (dk_at dksX6_does_6 7 rfl rfl)
theorem dX6_does_133 : decode cX6_does 133 = .ok (.iadd, 1) := dk_96 (dk_at dksX6_does_6 8 rfl rfl)
theorem dX6_does_134 : decode cX6_does 134 = .ok (.iconst 1, 1) := dk_4 (dk_at dksX6_does_6 9 rfl rfl)
theorem dX6_does_135 : decode cX6_does 135 = .ok (.iastore, 1) := dk_79 (dk_at dksX6_does_6 10 rfl rfl)
theorem dX6_does_136 : decode cX6_does 136 = .ok (.goto 3, 3) := dk_167 0 3 (dk_at dksX6_does_6 11 rfl rfl)
theorem dX6_does_139 : decode cX6_does 139 = .ok (.return_, 1) := dk_177 (dk_at dksX6_does_6 14 rfl rfl)
abbrev cX6_unitGoes : ByteArray := prog_16_method_48_code
def yX6_unitGoes : MethodName := ⟨RX6, "unitGoes", "([III)V"⟩
def dkwX6_unitGoes_2 : List UInt8 := [100, 79, 43, 3, 29, 96, 92, 46, 4, 96, 79, 177]
abbrev dktX6_unitGoes_2 : List UInt8 := dkwX6_unitGoes_2 ++ []
def dkwX6_unitGoes_1 : List UInt8 := [43, 3, 29, 96, 46, 4, 96, 108, 79, 43, 17, 0, 128, 29, 96, 3, 79, 43, 3, 28, 96, 92, 46, 4]
abbrev dktX6_unitGoes_1 : List UInt8 := dkwX6_unitGoes_1 ++ dktX6_unitGoes_2
def dkwX6_unitGoes_0 : List UInt8 := [43, 16, 64, 29, 96, 43, 16, 64, 29, 96, 46, 43, 3, 29, 96, 46, 104, 43, 16, 64, 28, 96, 46, 96]
abbrev dktX6_unitGoes_0 : List UInt8 := dkwX6_unitGoes_0 ++ dktX6_unitGoes_1
theorem dksX6_unitGoes_0 : cX6_unitGoes.data.toList.drop 0 = dktX6_unitGoes_0 := by decide +kernel
theorem dksX6_unitGoes_1 : cX6_unitGoes.data.toList.drop 24 = dktX6_unitGoes_1 := dk_seg dksX6_unitGoes_0 24 rfl rfl
theorem dksX6_unitGoes_2 : cX6_unitGoes.data.toList.drop 48 = dktX6_unitGoes_2 := dk_seg dksX6_unitGoes_1 24 rfl rfl
theorem dX6_unitGoes_0 : decode cX6_unitGoes 0 = .ok (.aload_n 1, 1) := dk_43 (dk_at dksX6_unitGoes_0 0 rfl rfl)
theorem dX6_unitGoes_1 : decode cX6_unitGoes 1 = .ok (.bipush 64, 2) := dk_16 64 (dk_at dksX6_unitGoes_0 1 rfl rfl)
theorem dX6_unitGoes_3 : decode cX6_unitGoes 3 = .ok (.iload_n 3, 1) := dk_29 (dk_at dksX6_unitGoes_0 3 rfl rfl)
theorem dX6_unitGoes_4 : decode cX6_unitGoes 4 = .ok (.iadd, 1) := dk_96 (dk_at dksX6_unitGoes_0 4 rfl rfl)
theorem dX6_unitGoes_5 : decode cX6_unitGoes 5 = .ok (.aload_n 1, 1) := dk_43 (dk_at dksX6_unitGoes_0 5 rfl rfl)
theorem dX6_unitGoes_6 : decode cX6_unitGoes 6 = .ok (.bipush 64, 2) := dk_16 64 (dk_at dksX6_unitGoes_0 6 rfl rfl)
theorem dX6_unitGoes_8 : decode cX6_unitGoes 8 = .ok (.iload_n 3, 1) := dk_29 (dk_at dksX6_unitGoes_0 8 rfl rfl)
theorem dX6_unitGoes_9 : decode cX6_unitGoes 9 = .ok (.iadd, 1) := dk_96 (dk_at dksX6_unitGoes_0 9 rfl rfl)
theorem dX6_unitGoes_10 : decode cX6_unitGoes 10 = .ok (.iaload, 1) := dk_46 (dk_at dksX6_unitGoes_0 10 rfl rfl)
theorem dX6_unitGoes_11 : decode cX6_unitGoes 11 = .ok (.aload_n 1, 1) := dk_43 (dk_at dksX6_unitGoes_0 11 rfl rfl)
theorem dX6_unitGoes_12 : decode cX6_unitGoes 12 = .ok (.iconst 0, 1) := dk_3 (dk_at dksX6_unitGoes_0 12 rfl rfl)
theorem dX6_unitGoes_13 : decode cX6_unitGoes 13 = .ok (.iload_n 3, 1) := dk_29 (dk_at dksX6_unitGoes_0 13 rfl rfl)
theorem dX6_unitGoes_14 : decode cX6_unitGoes 14 = .ok (.iadd, 1) := dk_96 (dk_at dksX6_unitGoes_0 14 rfl rfl)
theorem dX6_unitGoes_15 : decode cX6_unitGoes 15 = .ok (.iaload, 1) := dk_46 (dk_at dksX6_unitGoes_0 15 rfl rfl)
theorem dX6_unitGoes_16 : decode cX6_unitGoes 16 = .ok (.imul, 1) := dk_104 (dk_at dksX6_unitGoes_0 16 rfl rfl)
theorem dX6_unitGoes_17 : decode cX6_unitGoes 17 = .ok (.aload_n 1, 1) := dk_43 (dk_at dksX6_unitGoes_0 17 rfl rfl)
theorem dX6_unitGoes_18 : decode cX6_unitGoes 18 = .ok (.bipush 64, 2) := dk_16 64 (dk_at dksX6_unitGoes_0 18 rfl rfl)
theorem dX6_unitGoes_20 : decode cX6_unitGoes 20 = .ok (.iload_n 2, 1) := dk_28 (dk_at dksX6_unitGoes_0 20 rfl rfl)
theorem dX6_unitGoes_21 : decode cX6_unitGoes 21 = .ok (.iadd, 1) := dk_96 (dk_at dksX6_unitGoes_0 21 rfl rfl)
theorem dX6_unitGoes_22 : decode cX6_unitGoes 22 = .ok (.iaload, 1) := dk_46 (dk_at dksX6_unitGoes_0 22 rfl rfl)
theorem dX6_unitGoes_23 : decode cX6_unitGoes 23 = .ok (.iadd, 1) := dk_96 (dk_at dksX6_unitGoes_0 23 rfl rfl)
theorem dX6_unitGoes_24 : decode cX6_unitGoes 24 = .ok (.aload_n 1, 1) := dk_43 (dk_at dksX6_unitGoes_1 0 rfl rfl)
theorem dX6_unitGoes_25 : decode cX6_unitGoes 25 = .ok (.iconst 0, 1) := dk_3 (dk_at dksX6_unitGoes_1 1 rfl rfl)
theorem dX6_unitGoes_26 : decode cX6_unitGoes 26 = .ok (.iload_n 3, 1) := dk_29 (dk_at dksX6_unitGoes_1 2 rfl rfl)
theorem dX6_unitGoes_27 : decode cX6_unitGoes 27 = .ok (.iadd, 1) := dk_96 (dk_at dksX6_unitGoes_1 3 rfl rfl)
theorem dX6_unitGoes_28 : decode cX6_unitGoes 28 = .ok (.iaload, 1) := dk_46 (dk_at dksX6_unitGoes_1 4 rfl rfl)
theorem dX6_unitGoes_29 : decode cX6_unitGoes 29 = .ok (.iconst 1, 1) := dk_4 (dk_at dksX6_unitGoes_1 5 rfl rfl)
theorem dX6_unitGoes_30 : decode cX6_unitGoes 30 = .ok (.iadd, 1) := dk_96 (dk_at dksX6_unitGoes_1 6 rfl rfl)
theorem dX6_unitGoes_31 : decode cX6_unitGoes 31 = .ok (.idiv, 1) := dk_108 (dk_at dksX6_unitGoes_1 7 rfl rfl)
theorem dX6_unitGoes_32 : decode cX6_unitGoes 32 = .ok (.iastore, 1) := dk_79 (dk_at dksX6_unitGoes_1 8 rfl rfl)
theorem dX6_unitGoes_33 : decode cX6_unitGoes 33 = .ok (.aload_n 1, 1) := dk_43 (dk_at dksX6_unitGoes_1 9 rfl rfl)
theorem dX6_unitGoes_34 : decode cX6_unitGoes 34 = .ok (.sipush 128, 3) := dk_17 0 128 (dk_at dksX6_unitGoes_1 10 rfl rfl)
theorem dX6_unitGoes_37 : decode cX6_unitGoes 37 = .ok (.iload_n 3, 1) := dk_29 (dk_at dksX6_unitGoes_1 13 rfl rfl)
theorem dX6_unitGoes_38 : decode cX6_unitGoes 38 = .ok (.iadd, 1) := dk_96 (dk_at dksX6_unitGoes_1 14 rfl rfl)
theorem dX6_unitGoes_39 : decode cX6_unitGoes 39 = .ok (.iconst 0, 1) := dk_3 (dk_at dksX6_unitGoes_1 15 rfl rfl)
theorem dX6_unitGoes_40 : decode cX6_unitGoes 40 = .ok (.iastore, 1) := dk_79 (dk_at dksX6_unitGoes_1 16 rfl rfl)
theorem dX6_unitGoes_41 : decode cX6_unitGoes 41 = .ok (.aload_n 1, 1) := dk_43 (dk_at dksX6_unitGoes_1 17 rfl rfl)
theorem dX6_unitGoes_42 : decode cX6_unitGoes 42 = .ok (.iconst 0, 1) := dk_3 (dk_at dksX6_unitGoes_1 18 rfl rfl)
theorem dX6_unitGoes_43 : decode cX6_unitGoes 43 = .ok (.iload_n 2, 1) := dk_28 (dk_at dksX6_unitGoes_1 19 rfl rfl)
theorem dX6_unitGoes_44 : decode cX6_unitGoes 44 = .ok (.iadd, 1) := dk_96 (dk_at dksX6_unitGoes_1 20 rfl rfl)
theorem dX6_unitGoes_45 : decode cX6_unitGoes 45 = .ok (.dup2, 1) := dk_92 (dk_at dksX6_unitGoes_1 21 rfl rfl)
theorem dX6_unitGoes_46 : decode cX6_unitGoes 46 = .ok (.iaload, 1) := dk_46 (dk_at dksX6_unitGoes_1 22 rfl rfl)
theorem dX6_unitGoes_47 : decode cX6_unitGoes 47 = .ok (.iconst 1, 1) := dk_4 (dk_at dksX6_unitGoes_1 23 rfl rfl)
theorem dX6_unitGoes_48 : decode cX6_unitGoes 48 = .ok (.isub, 1) := dk_100 (dk_at dksX6_unitGoes_2 0 rfl rfl)
theorem dX6_unitGoes_49 : decode cX6_unitGoes 49 = .ok (.iastore, 1) := dk_79 (dk_at dksX6_unitGoes_2 1 rfl rfl)
theorem dX6_unitGoes_50 : decode cX6_unitGoes 50 = .ok (.aload_n 1, 1) := dk_43 (dk_at dksX6_unitGoes_2 2 rfl rfl)
theorem dX6_unitGoes_51 : decode cX6_unitGoes 51 = .ok (.iconst 0, 1) := dk_3 (dk_at dksX6_unitGoes_2 3 rfl rfl)
theorem dX6_unitGoes_52 : decode cX6_unitGoes 52 = .ok (.iload_n 3, 1) := dk_29 (dk_at dksX6_unitGoes_2 4 rfl rfl)
theorem dX6_unitGoes_53 : decode cX6_unitGoes 53 = .ok (.iadd, 1) := dk_96 (dk_at dksX6_unitGoes_2 5 rfl rfl)
theorem dX6_unitGoes_54 : decode cX6_unitGoes 54 = .ok (.dup2, 1) := dk_92 (dk_at dksX6_unitGoes_2 6 rfl rfl)
theorem dX6_unitGoes_55 : decode cX6_unitGoes 55 = .ok (.iaload, 1) := dk_46 (dk_at dksX6_unitGoes_2 7 rfl rfl)
theorem dX6_unitGoes_56 : decode cX6_unitGoes 56 = .ok (.iconst 1, 1) := dk_4 (dk_at dksX6_unitGoes_2 8 rfl rfl)
theorem dX6_unitGoes_57 : decode cX6_unitGoes 57 = .ok (.iadd, 1) := dk_96 (dk_at dksX6_unitGoes_2 9 rfl rfl)
theorem dX6_unitGoes_58 : decode cX6_unitGoes 58 = .ok (.iastore, 1) := dk_79 (dk_at dksX6_unitGoes_2 10 rfl rfl)
theorem dX6_unitGoes_59 : decode cX6_unitGoes 59 = .ok (.return_, 1) := dk_177 (dk_at dksX6_unitGoes_2 11 rfl rfl)
abbrev cX6_finish : ByteArray := prog_16_method_58_code
def yX6_finish : MethodName := ⟨RX6, "finish", "([I)V"⟩
def dkwX6_finish_1 : List UInt8 := [92, 46, 4, 96, 79, 177]
abbrev dktX6_finish_1 : List UInt8 := dkwX6_finish_1 ++ []
def dkwX6_finish_0 : List UInt8 := [42, 43, 182, 1, 142, 42, 43, 182, 1, 146, 42, 43, 182, 1, 149, 42, 43, 182, 1, 152, 43, 17, 1, 14]
abbrev dktX6_finish_0 : List UInt8 := dkwX6_finish_0 ++ dktX6_finish_1
theorem dksX6_finish_0 : cX6_finish.data.toList.drop 0 = dktX6_finish_0 := by decide +kernel
theorem dksX6_finish_1 : cX6_finish.data.toList.drop 24 = dktX6_finish_1 := dk_seg dksX6_finish_0 24 rfl rfl
theorem dX6_finish_0 : decode cX6_finish 0 = .ok (.aload_n 0, 1) := dk_42 (dk_at dksX6_finish_0 0 rfl rfl)
theorem dX6_finish_1 : decode cX6_finish 1 = .ok (.aload_n 1, 1) := dk_43 (dk_at dksX6_finish_0 1 rfl rfl)
theorem dX6_finish_2 : decode cX6_finish 2 = .ok (.invokevirtual 398, 3) := dk_182 1 142 (dk_at dksX6_finish_0 2 rfl rfl)
theorem dX6_finish_5 : decode cX6_finish 5 = .ok (.aload_n 0, 1) := dk_42 (dk_at dksX6_finish_0 5 rfl rfl)
theorem dX6_finish_6 : decode cX6_finish 6 = .ok (.aload_n 1, 1) := dk_43 (dk_at dksX6_finish_0 6 rfl rfl)
theorem dX6_finish_7 : decode cX6_finish 7 = .ok (.invokevirtual 402, 3) := dk_182 1 146 (dk_at dksX6_finish_0 7 rfl rfl)
theorem dX6_finish_10 : decode cX6_finish 10 = .ok (.aload_n 0, 1) := dk_42 (dk_at dksX6_finish_0 10 rfl rfl)
theorem dX6_finish_11 : decode cX6_finish 11 = .ok (.aload_n 1, 1) := dk_43 (dk_at dksX6_finish_0 11 rfl rfl)
theorem dX6_finish_12 : decode cX6_finish 12 = .ok (.invokevirtual 405, 3) := dk_182 1 149 (dk_at dksX6_finish_0 12 rfl rfl)
theorem dX6_finish_15 : decode cX6_finish 15 = .ok (.aload_n 0, 1) := dk_42 (dk_at dksX6_finish_0 15 rfl rfl)
theorem dX6_finish_16 : decode cX6_finish 16 = .ok (.aload_n 1, 1) := dk_43 (dk_at dksX6_finish_0 16 rfl rfl)
theorem dX6_finish_17 : decode cX6_finish 17 = .ok (.invokevirtual 408, 3) := dk_182 1 152 (dk_at dksX6_finish_0 17 rfl rfl)
theorem dX6_finish_20 : decode cX6_finish 20 = .ok (.aload_n 1, 1) := dk_43 (dk_at dksX6_finish_0 20 rfl rfl)
theorem dX6_finish_21 : decode cX6_finish 21 = .ok (.sipush 270, 3) := dk_17 1 14 (dk_at dksX6_finish_0 21 rfl rfl)
theorem dX6_finish_24 : decode cX6_finish 24 = .ok (.dup2, 1) := dk_92 (dk_at dksX6_finish_1 0 rfl rfl)
theorem dX6_finish_25 : decode cX6_finish 25 = .ok (.iaload, 1) := dk_46 (dk_at dksX6_finish_1 1 rfl rfl)
theorem dX6_finish_26 : decode cX6_finish 26 = .ok (.iconst 1, 1) := dk_4 (dk_at dksX6_finish_1 2 rfl rfl)
theorem dX6_finish_27 : decode cX6_finish 27 = .ok (.iadd, 1) := dk_96 (dk_at dksX6_finish_1 3 rfl rfl)
theorem dX6_finish_28 : decode cX6_finish 28 = .ok (.iastore, 1) := dk_79 (dk_at dksX6_finish_1 4 rfl rfl)
theorem dX6_finish_29 : decode cX6_finish 29 = .ok (.return_, 1) := dk_177 (dk_at dksX6_finish_1 5 rfl rfl)
abbrev cX6_seaComes : ByteArray := prog_16_method_53_code
def yX6_seaComes : MethodName := ⟨RX6, "seaComes", "([I)V"⟩
def dkwX6_seaComes_7 : List UInt8 := [42, 180, 1, 6, 3, 46, 100, 4, 96, 184, 1, 132, 96, 182, 1, 129, 177]
abbrev dktX6_seaComes_7 : List UInt8 := dkwX6_seaComes_7 ++ []
def dkwX6_seaComes_6 : List UInt8 := [100, 4, 96, 184, 1, 132, 96, 62, 42, 43, 29, 42, 180, 1, 6, 3, 46, 43, 42, 180, 1, 6, 4, 46]
abbrev dktX6_seaComes_6 : List UInt8 := dkwX6_seaComes_6 ++ dktX6_seaComes_7
def dkwX6_seaComes_5 : List UInt8 := [46, 161, 0, 4, 177, 42, 180, 1, 4, 3, 46, 43, 42, 180, 1, 4, 4, 46, 42, 180, 1, 4, 3, 46]
abbrev dktX6_seaComes_5 : List UInt8 := dkwX6_seaComes_5 ++ dktX6_seaComes_6
def dkwX6_seaComes_4 : List UInt8 := [46, 100, 42, 180, 1, 2, 5, 46, 112, 153, 0, 4, 177, 43, 16, 100, 184, 1, 132, 42, 180, 1, 2, 6]
abbrev dktX6_seaComes_4 : List UInt8 := dkwX6_seaComes_4 ++ dktX6_seaComes_5
def dkwX6_seaComes_3 : List UInt8 := [180, 1, 2, 3, 46, 161, 0, 31, 28, 42, 180, 1, 2, 4, 46, 163, 0, 21, 28, 42, 180, 1, 2, 3]
abbrev dktX6_seaComes_3 : List UInt8 := dkwX6_seaComes_3 ++ dktX6_seaComes_4
def dkwX6_seaComes_2 : List UInt8 := [96, 46, 182, 1, 129, 132, 3, 1, 167, 255, 208, 42, 180, 1, 2, 3, 46, 2, 159, 0, 41, 28, 42]
abbrev dktX6_seaComes_2 : List UInt8 := dkwX6_seaComes_2 ++ dktX6_seaComes_3
def dkwX6_seaComes_1 : List UInt8 := [28, 160, 0, 28, 42, 43, 42, 180, 1, 0, 6, 29, 104, 4, 96, 46, 42, 180, 1, 0, 6, 29, 104, 5]
abbrev dktX6_seaComes_1 : List UInt8 := dkwX6_seaComes_1 ++ dktX6_seaComes_2
def dkwX6_seaComes_0 : List UInt8 := [43, 17, 1, 14, 46, 61, 3, 62, 29, 42, 180, 1, 78, 162, 0, 46, 42, 180, 1, 0, 6, 29, 104, 46]
abbrev dktX6_seaComes_0 : List UInt8 := dkwX6_seaComes_0 ++ dktX6_seaComes_1
theorem dksX6_seaComes_0 : cX6_seaComes.data.toList.drop 0 = dktX6_seaComes_0 := by decide +kernel
theorem dksX6_seaComes_1 : cX6_seaComes.data.toList.drop 24 = dktX6_seaComes_1 := dk_seg dksX6_seaComes_0 24 rfl rfl
theorem dksX6_seaComes_2 : cX6_seaComes.data.toList.drop 48 = dktX6_seaComes_2 := dk_seg dksX6_seaComes_1 24 rfl rfl
theorem dksX6_seaComes_3 : cX6_seaComes.data.toList.drop 71 = dktX6_seaComes_3 := dk_seg dksX6_seaComes_2 23 rfl rfl
theorem dksX6_seaComes_4 : cX6_seaComes.data.toList.drop 95 = dktX6_seaComes_4 := dk_seg dksX6_seaComes_3 24 rfl rfl
theorem dksX6_seaComes_5 : cX6_seaComes.data.toList.drop 119 = dktX6_seaComes_5 := dk_seg dksX6_seaComes_4 24 rfl rfl
theorem dksX6_seaComes_6 : cX6_seaComes.data.toList.drop 143 = dktX6_seaComes_6 := dk_seg dksX6_seaComes_5 24 rfl rfl
theorem dksX6_seaComes_7 : cX6_seaComes.data.toList.drop 167 = dktX6_seaComes_7 := dk_seg dksX6_seaComes_6 24 rfl rfl
theorem dX6_seaComes_0 : decode cX6_seaComes 0 = .ok (.aload_n 1, 1) := dk_43 (dk_at dksX6_seaComes_0 0 rfl rfl)
theorem dX6_seaComes_1 : decode cX6_seaComes 1 = .ok (.sipush 270, 3) := dk_17 1 14 (dk_at dksX6_seaComes_0 1 rfl rfl)
theorem dX6_seaComes_4 : decode cX6_seaComes 4 = .ok (.iaload, 1) := dk_46 (dk_at dksX6_seaComes_0 4 rfl rfl)
theorem dX6_seaComes_5 : decode cX6_seaComes 5 = .ok (.istore_n 2, 1) := dk_61 (dk_at dksX6_seaComes_0 5 rfl rfl)
theorem dX6_seaComes_6 : decode cX6_seaComes 6 = .ok (.iconst 0, 1) := dk_3 (dk_at dksX6_seaComes_0 6 rfl rfl)
theorem dX6_seaComes_7 : decode cX6_seaComes 7 = .ok (.istore_n 3, 1) := dk_62 (dk_at dksX6_seaComes_0 7 rfl rfl)
theorem dX6_seaComes_8 : decode cX6_seaComes 8 = .ok (.iload_n 3, 1) := dk_29 (dk_at dksX6_seaComes_0 8 rfl rfl)
theorem dX6_seaComes_9 : decode cX6_seaComes 9 = .ok (.aload_n 0, 1) := dk_42 (dk_at dksX6_seaComes_0 9 rfl rfl)
theorem dX6_seaComes_10 : decode cX6_seaComes 10 = .ok (.getfield 334, 3) := dk_180 1 78 (dk_at dksX6_seaComes_0 10 rfl rfl)
theorem dX6_seaComes_13 : decode cX6_seaComes 13 = .ok (.if_icmp .ge 46, 3) := dk_162 0 46 (dk_at dksX6_seaComes_0 13 rfl rfl)
theorem dX6_seaComes_16 : decode cX6_seaComes 16 = .ok (.aload_n 0, 1) := dk_42 (dk_at dksX6_seaComes_0 16 rfl rfl)
theorem dX6_seaComes_17 : decode cX6_seaComes 17 = .ok (.getfield 256, 3) := dk_180 1 0 (dk_at dksX6_seaComes_0 17 rfl rfl)
theorem dX6_seaComes_20 : decode cX6_seaComes 20 = .ok (.iconst 3, 1) := dk_6 (dk_at dksX6_seaComes_0 20 rfl rfl)
theorem dX6_seaComes_21 : decode cX6_seaComes 21 = .ok (.iload_n 3, 1) := dk_29 (dk_at dksX6_seaComes_0 21 rfl rfl)
theorem dX6_seaComes_22 : decode cX6_seaComes 22 = .ok (.imul, 1) := dk_104 (dk_at dksX6_seaComes_0 22 rfl rfl)
theorem dX6_seaComes_23 : decode cX6_seaComes 23 = .ok (.iaload, 1) := dk_46 (dk_at dksX6_seaComes_0 23 rfl rfl)
theorem dX6_seaComes_24 : decode cX6_seaComes 24 = .ok (.iload_n 2, 1) := dk_28 (dk_at dksX6_seaComes_1 0 rfl rfl)
theorem dX6_seaComes_25 : decode cX6_seaComes 25 = .ok (.if_icmp .ne 28, 3) := dk_160 0 28 (dk_at dksX6_seaComes_1 1 rfl rfl)
theorem dX6_seaComes_28 : decode cX6_seaComes 28 = .ok (.aload_n 0, 1) := dk_42 (dk_at dksX6_seaComes_1 4 rfl rfl)
theorem dX6_seaComes_29 : decode cX6_seaComes 29 = .ok (.aload_n 1, 1) := dk_43 (dk_at dksX6_seaComes_1 5 rfl rfl)
theorem dX6_seaComes_30 : decode cX6_seaComes 30 = .ok (.aload_n 0, 1) := dk_42 (dk_at dksX6_seaComes_1 6 rfl rfl)
theorem dX6_seaComes_31 : decode cX6_seaComes 31 = .ok (.getfield 256, 3) := dk_180 1 0 (dk_at dksX6_seaComes_1 7 rfl rfl)
theorem dX6_seaComes_34 : decode cX6_seaComes 34 = .ok (.iconst 3, 1) := dk_6 (dk_at dksX6_seaComes_1 10 rfl rfl)
theorem dX6_seaComes_35 : decode cX6_seaComes 35 = .ok (.iload_n 3, 1) := dk_29 (dk_at dksX6_seaComes_1 11 rfl rfl)
theorem dX6_seaComes_36 : decode cX6_seaComes 36 = .ok (.imul, 1) := dk_104 (dk_at dksX6_seaComes_1 12 rfl rfl)
theorem dX6_seaComes_37 : decode cX6_seaComes 37 = .ok (.iconst 1, 1) := dk_4 (dk_at dksX6_seaComes_1 13 rfl rfl)
theorem dX6_seaComes_38 : decode cX6_seaComes 38 = .ok (.iadd, 1) := dk_96 (dk_at dksX6_seaComes_1 14 rfl rfl)
theorem dX6_seaComes_39 : decode cX6_seaComes 39 = .ok (.iaload, 1) := dk_46 (dk_at dksX6_seaComes_1 15 rfl rfl)
theorem dX6_seaComes_40 : decode cX6_seaComes 40 = .ok (.aload_n 0, 1) := dk_42 (dk_at dksX6_seaComes_1 16 rfl rfl)
theorem dX6_seaComes_41 : decode cX6_seaComes 41 = .ok (.getfield 256, 3) := dk_180 1 0 (dk_at dksX6_seaComes_1 17 rfl rfl)
theorem dX6_seaComes_44 : decode cX6_seaComes 44 = .ok (.iconst 3, 1) := dk_6 (dk_at dksX6_seaComes_1 20 rfl rfl)
theorem dX6_seaComes_45 : decode cX6_seaComes 45 = .ok (.iload_n 3, 1) := dk_29 (dk_at dksX6_seaComes_1 21 rfl rfl)
theorem dX6_seaComes_46 : decode cX6_seaComes 46 = .ok (.imul, 1) := dk_104 (dk_at dksX6_seaComes_1 22 rfl rfl)
theorem dX6_seaComes_47 : decode cX6_seaComes 47 = .ok (.iconst 2, 1) := dk_5 (dk_at dksX6_seaComes_1 23 rfl rfl)
theorem dX6_seaComes_48 : decode cX6_seaComes 48 = .ok (.iadd, 1) := dk_96 (dk_at dksX6_seaComes_2 0 rfl rfl)
theorem dX6_seaComes_49 : decode cX6_seaComes 49 = .ok (.iaload, 1) := dk_46 (dk_at dksX6_seaComes_2 1 rfl rfl)
theorem dX6_seaComes_50 : decode cX6_seaComes 50 = .ok (.invokevirtual 385, 3) := dk_182 1 129 (dk_at dksX6_seaComes_2 2 rfl rfl)
theorem dX6_seaComes_53 : decode cX6_seaComes 53 = .ok (.iinc 3 1, 3) := dk_132 3 1 (dk_at dksX6_seaComes_2 5 rfl rfl)
theorem dX6_seaComes_56 : decode cX6_seaComes 56 = .ok (.goto (-48), 3) := dk_167 255 208 (dk_at dksX6_seaComes_2 8 rfl rfl)
theorem dX6_seaComes_59 : decode cX6_seaComes 59 = .ok (.aload_n 0, 1) := dk_42 (dk_at dksX6_seaComes_2 11 rfl rfl)
theorem dX6_seaComes_60 : decode cX6_seaComes 60 = .ok (.getfield 258, 3) := dk_180 1 2 (dk_at dksX6_seaComes_2 12 rfl rfl)
theorem dX6_seaComes_63 : decode cX6_seaComes 63 = .ok (.iconst 0, 1) := dk_3 (dk_at dksX6_seaComes_2 15 rfl rfl)
theorem dX6_seaComes_64 : decode cX6_seaComes 64 = .ok (.iaload, 1) := dk_46 (dk_at dksX6_seaComes_2 16 rfl rfl)
theorem dX6_seaComes_65 : decode cX6_seaComes 65 = .ok (.iconst (-1), 1) := dk_2 (dk_at dksX6_seaComes_2 17 rfl rfl)
theorem dX6_seaComes_66 : decode cX6_seaComes 66 = .ok (.if_icmp .eq 41, 3) := dk_159 0 41 (dk_at dksX6_seaComes_2 18 rfl rfl)
theorem dX6_seaComes_69 : decode cX6_seaComes 69 = .ok (.iload_n 2, 1) := dk_28 (dk_at dksX6_seaComes_2 21 rfl rfl)
theorem dX6_seaComes_70 : decode cX6_seaComes 70 = .ok (.aload_n 0, 1) := dk_42 (dk_at dksX6_seaComes_2 22 rfl rfl)
theorem dX6_seaComes_71 : decode cX6_seaComes 71 = .ok (.getfield 258, 3) := dk_180 1 2 (dk_at dksX6_seaComes_3 0 rfl rfl)
theorem dX6_seaComes_74 : decode cX6_seaComes 74 = .ok (.iconst 0, 1) := dk_3 (dk_at dksX6_seaComes_3 3 rfl rfl)
theorem dX6_seaComes_75 : decode cX6_seaComes 75 = .ok (.iaload, 1) := dk_46 (dk_at dksX6_seaComes_3 4 rfl rfl)
theorem dX6_seaComes_76 : decode cX6_seaComes 76 = .ok (.if_icmp .lt 31, 3) := dk_161 0 31 (dk_at dksX6_seaComes_3 5 rfl rfl)
theorem dX6_seaComes_79 : decode cX6_seaComes 79 = .ok (.iload_n 2, 1) := dk_28 (dk_at dksX6_seaComes_3 8 rfl rfl)
theorem dX6_seaComes_80 : decode cX6_seaComes 80 = .ok (.aload_n 0, 1) := dk_42 (dk_at dksX6_seaComes_3 9 rfl rfl)
theorem dX6_seaComes_81 : decode cX6_seaComes 81 = .ok (.getfield 258, 3) := dk_180 1 2 (dk_at dksX6_seaComes_3 10 rfl rfl)
theorem dX6_seaComes_84 : decode cX6_seaComes 84 = .ok (.iconst 1, 1) := dk_4 (dk_at dksX6_seaComes_3 13 rfl rfl)
theorem dX6_seaComes_85 : decode cX6_seaComes 85 = .ok (.iaload, 1) := dk_46 (dk_at dksX6_seaComes_3 14 rfl rfl)
theorem dX6_seaComes_86 : decode cX6_seaComes 86 = .ok (.if_icmp .gt 21, 3) := dk_163 0 21 (dk_at dksX6_seaComes_3 15 rfl rfl)
theorem dX6_seaComes_89 : decode cX6_seaComes 89 = .ok (.iload_n 2, 1) := dk_28 (dk_at dksX6_seaComes_3 18 rfl rfl)
theorem dX6_seaComes_90 : decode cX6_seaComes 90 = .ok (.aload_n 0, 1) := dk_42 (dk_at dksX6_seaComes_3 19 rfl rfl)
theorem dX6_seaComes_91 : decode cX6_seaComes 91 = .ok (.getfield 258, 3) := dk_180 1 2 (dk_at dksX6_seaComes_3 20 rfl rfl)
theorem dX6_seaComes_94 : decode cX6_seaComes 94 = .ok (.iconst 0, 1) := dk_3 (dk_at dksX6_seaComes_3 23 rfl rfl)
theorem dX6_seaComes_95 : decode cX6_seaComes 95 = .ok (.iaload, 1) := dk_46 (dk_at dksX6_seaComes_4 0 rfl rfl)
theorem dX6_seaComes_96 : decode cX6_seaComes 96 = .ok (.isub, 1) := dk_100 (dk_at dksX6_seaComes_4 1 rfl rfl)
theorem dX6_seaComes_97 : decode cX6_seaComes 97 = .ok (.aload_n 0, 1) := dk_42 (dk_at dksX6_seaComes_4 2 rfl rfl)
theorem dX6_seaComes_98 : decode cX6_seaComes 98 = .ok (.getfield 258, 3) := dk_180 1 2 (dk_at dksX6_seaComes_4 3 rfl rfl)
theorem dX6_seaComes_101 : decode cX6_seaComes 101 = .ok (.iconst 2, 1) := dk_5 (dk_at dksX6_seaComes_4 6 rfl rfl)
theorem dX6_seaComes_102 : decode cX6_seaComes 102 = .ok (.iaload, 1) := dk_46 (dk_at dksX6_seaComes_4 7 rfl rfl)
theorem dX6_seaComes_103 : decode cX6_seaComes 103 = .ok (.irem, 1) := dk_112 (dk_at dksX6_seaComes_4 8 rfl rfl)
theorem dX6_seaComes_104 : decode cX6_seaComes 104 = .ok (.ifCond .eq 4, 3) := dk_153 0 4 (dk_at dksX6_seaComes_4 9 rfl rfl)
theorem dX6_seaComes_107 : decode cX6_seaComes 107 = .ok (.return_, 1) := dk_177 (dk_at dksX6_seaComes_4 12 rfl rfl)
theorem dX6_seaComes_108 : decode cX6_seaComes 108 = .ok (.aload_n 1, 1) := dk_43 (dk_at dksX6_seaComes_4 13 rfl rfl)
theorem dX6_seaComes_109 : decode cX6_seaComes 109 = .ok (.bipush 100, 2) := dk_16 100 (dk_at dksX6_seaComes_4 14 rfl rfl)
theorem dX6_seaComes_111 : decode cX6_seaComes 111 = .ok (.invokestatic 388, 3) := dk_184 1 132 (dk_at dksX6_seaComes_4 16 rfl rfl)
theorem dX6_seaComes_114 : decode cX6_seaComes 114 = .ok (.aload_n 0, 1) := dk_42 (dk_at dksX6_seaComes_4 19 rfl rfl)
theorem dX6_seaComes_115 : decode cX6_seaComes 115 = .ok (.getfield 258, 3) := dk_180 1 2 (dk_at dksX6_seaComes_4 20 rfl rfl)
theorem dX6_seaComes_118 : decode cX6_seaComes 118 = .ok (.iconst 3, 1) := dk_6 (dk_at dksX6_seaComes_4 23 rfl rfl)
theorem dX6_seaComes_119 : decode cX6_seaComes 119 = .ok (.iaload, 1) := dk_46 (dk_at dksX6_seaComes_5 0 rfl rfl)
theorem dX6_seaComes_120 : decode cX6_seaComes 120 = .ok (.if_icmp .lt 4, 3) := dk_161 0 4 (dk_at dksX6_seaComes_5 1 rfl rfl)
theorem dX6_seaComes_123 : decode cX6_seaComes 123 = .ok (.return_, 1) := dk_177 (dk_at dksX6_seaComes_5 4 rfl rfl)
theorem dX6_seaComes_124 : decode cX6_seaComes 124 = .ok (.aload_n 0, 1) := dk_42 (dk_at dksX6_seaComes_5 5 rfl rfl)
theorem dX6_seaComes_125 : decode cX6_seaComes 125 = .ok (.getfield 260, 3) := dk_180 1 4 (dk_at dksX6_seaComes_5 6 rfl rfl)
theorem dX6_seaComes_128 : decode cX6_seaComes 128 = .ok (.iconst 0, 1) := dk_3 (dk_at dksX6_seaComes_5 9 rfl rfl)
theorem dX6_seaComes_129 : decode cX6_seaComes 129 = .ok (.iaload, 1) := dk_46 (dk_at dksX6_seaComes_5 10 rfl rfl)
theorem dX6_seaComes_130 : decode cX6_seaComes 130 = .ok (.aload_n 1, 1) := dk_43 (dk_at dksX6_seaComes_5 11 rfl rfl)
theorem dX6_seaComes_131 : decode cX6_seaComes 131 = .ok (.aload_n 0, 1) := dk_42 (dk_at dksX6_seaComes_5 12 rfl rfl)
theorem dX6_seaComes_132 : decode cX6_seaComes 132 = .ok (.getfield 260, 3) := dk_180 1 4 (dk_at dksX6_seaComes_5 13 rfl rfl)
theorem dX6_seaComes_135 : decode cX6_seaComes 135 = .ok (.iconst 1, 1) := dk_4 (dk_at dksX6_seaComes_5 16 rfl rfl)
theorem dX6_seaComes_136 : decode cX6_seaComes 136 = .ok (.iaload, 1) := dk_46 (dk_at dksX6_seaComes_5 17 rfl rfl)
theorem dX6_seaComes_137 : decode cX6_seaComes 137 = .ok (.aload_n 0, 1) := dk_42 (dk_at dksX6_seaComes_5 18 rfl rfl)
theorem dX6_seaComes_138 : decode cX6_seaComes 138 = .ok (.getfield 260, 3) := dk_180 1 4 (dk_at dksX6_seaComes_5 19 rfl rfl)
theorem dX6_seaComes_141 : decode cX6_seaComes 141 = .ok (.iconst 0, 1) := dk_3 (dk_at dksX6_seaComes_5 22 rfl rfl)
theorem dX6_seaComes_142 : decode cX6_seaComes 142 = .ok (.iaload, 1) := dk_46 (dk_at dksX6_seaComes_5 23 rfl rfl)
theorem dX6_seaComes_143 : decode cX6_seaComes 143 = .ok (.isub, 1) := dk_100 (dk_at dksX6_seaComes_6 0 rfl rfl)
theorem dX6_seaComes_144 : decode cX6_seaComes 144 = .ok (.iconst 1, 1) := dk_4 (dk_at dksX6_seaComes_6 1 rfl rfl)
theorem dX6_seaComes_145 : decode cX6_seaComes 145 = .ok (.iadd, 1) := dk_96 (dk_at dksX6_seaComes_6 2 rfl rfl)
theorem dX6_seaComes_146 : decode cX6_seaComes 146 = .ok (.invokestatic 388, 3) := dk_184 1 132 (dk_at dksX6_seaComes_6 3 rfl rfl)
theorem dX6_seaComes_149 : decode cX6_seaComes 149 = .ok (.iadd, 1) := dk_96 (dk_at dksX6_seaComes_6 6 rfl rfl)
theorem dX6_seaComes_150 : decode cX6_seaComes 150 = .ok (.istore_n 3, 1) := dk_62 (dk_at dksX6_seaComes_6 7 rfl rfl)
theorem dX6_seaComes_151 : decode cX6_seaComes 151 = .ok (.aload_n 0, 1) := dk_42 (dk_at dksX6_seaComes_6 8 rfl rfl)
theorem dX6_seaComes_152 : decode cX6_seaComes 152 = .ok (.aload_n 1, 1) := dk_43 (dk_at dksX6_seaComes_6 9 rfl rfl)
theorem dX6_seaComes_153 : decode cX6_seaComes 153 = .ok (.iload_n 3, 1) := dk_29 (dk_at dksX6_seaComes_6 10 rfl rfl)
theorem dX6_seaComes_154 : decode cX6_seaComes 154 = .ok (.aload_n 0, 1) := dk_42 (dk_at dksX6_seaComes_6 11 rfl rfl)
theorem dX6_seaComes_155 : decode cX6_seaComes 155 = .ok (.getfield 262, 3) := dk_180 1 6 (dk_at dksX6_seaComes_6 12 rfl rfl)
theorem dX6_seaComes_158 : decode cX6_seaComes 158 = .ok (.iconst 0, 1) := dk_3 (dk_at dksX6_seaComes_6 15 rfl rfl)
theorem dX6_seaComes_159 : decode cX6_seaComes 159 = .ok (.iaload, 1) := dk_46 (dk_at dksX6_seaComes_6 16 rfl rfl)
theorem dX6_seaComes_160 : decode cX6_seaComes 160 = .ok (.aload_n 1, 1) := dk_43 (dk_at dksX6_seaComes_6 17 rfl rfl)
theorem dX6_seaComes_161 : decode cX6_seaComes 161 = .ok (.aload_n 0, 1) := dk_42 (dk_at dksX6_seaComes_6 18 rfl rfl)
theorem dX6_seaComes_162 : decode cX6_seaComes 162 = .ok (.getfield 262, 3) := dk_180 1 6 (dk_at dksX6_seaComes_6 19 rfl rfl)
theorem dX6_seaComes_165 : decode cX6_seaComes 165 = .ok (.iconst 1, 1) := dk_4 (dk_at dksX6_seaComes_6 22 rfl rfl)
theorem dX6_seaComes_166 : decode cX6_seaComes 166 = .ok (.iaload, 1) := dk_46 (dk_at dksX6_seaComes_6 23 rfl rfl)
theorem dX6_seaComes_167 : decode cX6_seaComes 167 = .ok (.aload_n 0, 1) := dk_42 (dk_at dksX6_seaComes_7 0 rfl rfl)
theorem dX6_seaComes_168 : decode cX6_seaComes 168 = .ok (.getfield 262, 3) := dk_180 1 6 (dk_at dksX6_seaComes_7 1 rfl rfl)
theorem dX6_seaComes_171 : decode cX6_seaComes 171 = .ok (.iconst 0, 1) := dk_3 (dk_at dksX6_seaComes_7 4 rfl rfl)
theorem dX6_seaComes_172 : decode cX6_seaComes 172 = .ok (.iaload, 1) := dk_46 (dk_at dksX6_seaComes_7 5 rfl rfl)
theorem dX6_seaComes_173 : decode cX6_seaComes 173 = .ok (.isub, 1) := dk_100 (dk_at dksX6_seaComes_7 6 rfl rfl)
theorem dX6_seaComes_174 : decode cX6_seaComes 174 = .ok (.iconst 1, 1) := dk_4 (dk_at dksX6_seaComes_7 7 rfl rfl)
theorem dX6_seaComes_175 : decode cX6_seaComes 175 = .ok (.iadd, 1) := dk_96 (dk_at dksX6_seaComes_7 8 rfl rfl)
theorem dX6_seaComes_176 : decode cX6_seaComes 176 = .ok (.invokestatic 388, 3) := dk_184 1 132 (dk_at dksX6_seaComes_7 9 rfl rfl)
theorem dX6_seaComes_179 : decode cX6_seaComes 179 = .ok (.iadd, 1) := dk_96 (dk_at dksX6_seaComes_7 12 rfl rfl)
theorem dX6_seaComes_180 : decode cX6_seaComes 180 = .ok (.invokevirtual 385, 3) := dk_182 1 129 (dk_at dksX6_seaComes_7 13 rfl rfl)
theorem dX6_seaComes_183 : decode cX6_seaComes 183 = .ok (.return_, 1) := dk_177 (dk_at dksX6_seaComes_7 16 rfl rfl)
abbrev cX6_waveComes : ByteArray := prog_16_method_51_code
def yX6_waveComes : MethodName := ⟨RX6, "waveComes", "([III)V"⟩
def dkwX6_waveComes_7 : List UInt8 := [177]
abbrev dktX6_waveComes_7 : List UInt8 := dkwX6_waveComes_7 ++ []
def dkwX6_waveComes_6 : List UInt8 := [17, 1, 13, 92, 46, 21, 7, 96, 79, 167, 0, 9, 132, 5, 1, 167, 255, 127, 132, 4, 1, 167, 255, 109]
abbrev dktX6_waveComes_6 : List UInt8 := dkwX6_waveComes_6 ++ dktX6_waveComes_7
def dkwX6_waveComes_5 : List UInt8 := [3, 21, 6, 96, 46, 184, 1, 114, 54, 7, 43, 3, 21, 6, 96, 92, 46, 21, 7, 100, 79, 43]
abbrev dktX6_waveComes_5 : List UInt8 := dkwX6_waveComes_5 ++ dktX6_waveComes_6
def dkwX6_waveComes_4 : List UInt8 := [21, 6, 96, 16, 16, 79, 43, 3, 21, 6, 96, 46, 29, 163, 0, 6, 167, 0, 42, 42, 180, 1, 8, 43]
abbrev dktX6_waveComes_4 : List UInt8 := dkwX6_waveComes_4 ++ dktX6_waveComes_5
def dkwX6_waveComes_3 : List UInt8 := [162, 0, 87, 43, 16, 64, 21, 6, 96, 42, 180, 0, 201, 96, 16, 16, 79, 167, 0, 70, 43, 16, 64]
abbrev dktX6_waveComes_3 : List UInt8 := dkwX6_waveComes_3 ++ dktX6_waveComes_4
def dkwX6_waveComes_2 : List UInt8 := [54, 6, 43, 17, 0, 192, 21, 6, 96, 46, 4, 160, 0, 31, 21, 5, 4, 96, 42, 180, 0, 204]
abbrev dktX6_waveComes_2 : List UInt8 := dkwX6_waveComes_2 ++ dktX6_waveComes_3
def dkwX6_waveComes_1 : List UInt8 := [21, 5, 28, 42, 180, 0, 204, 184, 1, 114, 162, 0, 122, 42, 180, 0, 201, 21, 5, 104, 21, 4, 96]
abbrev dktX6_waveComes_1 : List UInt8 := dkwX6_waveComes_1 ++ dktX6_waveComes_2
def dkwX6_waveComes_0 : List UInt8 := [43, 17, 1, 18, 92, 46, 4, 96, 79, 3, 54, 4, 21, 4, 42, 180, 0, 201, 162, 0, 144, 3, 54, 5]
abbrev dktX6_waveComes_0 : List UInt8 := dkwX6_waveComes_0 ++ dktX6_waveComes_1
theorem dksX6_waveComes_0 : cX6_waveComes.data.toList.drop 0 = dktX6_waveComes_0 := by decide +kernel
theorem dksX6_waveComes_1 : cX6_waveComes.data.toList.drop 24 = dktX6_waveComes_1 := dk_seg dksX6_waveComes_0 24 rfl rfl
theorem dksX6_waveComes_2 : cX6_waveComes.data.toList.drop 47 = dktX6_waveComes_2 := dk_seg dksX6_waveComes_1 23 rfl rfl
theorem dksX6_waveComes_3 : cX6_waveComes.data.toList.drop 69 = dktX6_waveComes_3 := dk_seg dksX6_waveComes_2 22 rfl rfl
theorem dksX6_waveComes_4 : cX6_waveComes.data.toList.drop 92 = dktX6_waveComes_4 := dk_seg dksX6_waveComes_3 23 rfl rfl
theorem dksX6_waveComes_5 : cX6_waveComes.data.toList.drop 116 = dktX6_waveComes_5 := dk_seg dksX6_waveComes_4 24 rfl rfl
theorem dksX6_waveComes_6 : cX6_waveComes.data.toList.drop 138 = dktX6_waveComes_6 := dk_seg dksX6_waveComes_5 22 rfl rfl
theorem dksX6_waveComes_7 : cX6_waveComes.data.toList.drop 162 = dktX6_waveComes_7 := dk_seg dksX6_waveComes_6 24 rfl rfl
theorem dX6_waveComes_0 : decode cX6_waveComes 0 = .ok (.aload_n 1, 1) := dk_43 (dk_at dksX6_waveComes_0 0 rfl rfl)
theorem dX6_waveComes_1 : decode cX6_waveComes 1 = .ok (.sipush 274, 3) := dk_17 1 18 (dk_at dksX6_waveComes_0 1 rfl rfl)
theorem dX6_waveComes_4 : decode cX6_waveComes 4 = .ok (.dup2, 1) := dk_92 (dk_at dksX6_waveComes_0 4 rfl rfl)
theorem dX6_waveComes_5 : decode cX6_waveComes 5 = .ok (.iaload, 1) := dk_46 (dk_at dksX6_waveComes_0 5 rfl rfl)
theorem dX6_waveComes_6 : decode cX6_waveComes 6 = .ok (.iconst 1, 1) := dk_4 (dk_at dksX6_waveComes_0 6 rfl rfl)
theorem dX6_waveComes_7 : decode cX6_waveComes 7 = .ok (.iadd, 1) := dk_96 (dk_at dksX6_waveComes_0 7 rfl rfl)
theorem dX6_waveComes_8 : decode cX6_waveComes 8 = .ok (.iastore, 1) := dk_79 (dk_at dksX6_waveComes_0 8 rfl rfl)
theorem dX6_waveComes_9 : decode cX6_waveComes 9 = .ok (.iconst 0, 1) := dk_3 (dk_at dksX6_waveComes_0 9 rfl rfl)
theorem dX6_waveComes_10 : decode cX6_waveComes 10 = .ok (.istore 4, 2) := dk_54 4 (dk_at dksX6_waveComes_0 10 rfl rfl)
theorem dX6_waveComes_12 : decode cX6_waveComes 12 = .ok (.iload 4, 2) := dk_21 4 (dk_at dksX6_waveComes_0 12 rfl rfl)
theorem dX6_waveComes_14 : decode cX6_waveComes 14 = .ok (.aload_n 0, 1) := dk_42 (dk_at dksX6_waveComes_0 14 rfl rfl)
theorem dX6_waveComes_15 : decode cX6_waveComes 15 = .ok (.getfield 201, 3) := dk_180 0 201 (dk_at dksX6_waveComes_0 15 rfl rfl)
theorem dX6_waveComes_18 : decode cX6_waveComes 18 = .ok (.if_icmp .ge 144, 3) := dk_162 0 144 (dk_at dksX6_waveComes_0 18 rfl rfl)
theorem dX6_waveComes_21 : decode cX6_waveComes 21 = .ok (.iconst 0, 1) := dk_3 (dk_at dksX6_waveComes_0 21 rfl rfl)
theorem dX6_waveComes_22 : decode cX6_waveComes 22 = .ok (.istore 5, 2) := dk_54 5 (dk_at dksX6_waveComes_0 22 rfl rfl)
theorem dX6_waveComes_24 : decode cX6_waveComes 24 = .ok (.iload 5, 2) := dk_21 5 (dk_at dksX6_waveComes_1 0 rfl rfl)
theorem dX6_waveComes_26 : decode cX6_waveComes 26 = .ok (.iload_n 2, 1) := dk_28 (dk_at dksX6_waveComes_1 2 rfl rfl)
theorem dX6_waveComes_27 : decode cX6_waveComes 27 = .ok (.aload_n 0, 1) := dk_42 (dk_at dksX6_waveComes_1 3 rfl rfl)
theorem dX6_waveComes_28 : decode cX6_waveComes 28 = .ok (.getfield 204, 3) := dk_180 0 204 (dk_at dksX6_waveComes_1 4 rfl rfl)
theorem dX6_waveComes_31 : decode cX6_waveComes 31 = .ok (.invokestatic 370, 3) := dk_184 1 114 (dk_at dksX6_waveComes_1 7 rfl rfl)
theorem dX6_waveComes_34 : decode cX6_waveComes 34 = .ok (.if_icmp .ge 122, 3) := dk_162 0 122 (dk_at dksX6_waveComes_1 10 rfl rfl)
theorem dX6_waveComes_37 : decode cX6_waveComes 37 = .ok (.aload_n 0, 1) := dk_42 (dk_at dksX6_waveComes_1 13 rfl rfl)
theorem dX6_waveComes_38 : decode cX6_waveComes 38 = .ok (.getfield 201, 3) := dk_180 0 201 (dk_at dksX6_waveComes_1 14 rfl rfl)
theorem dX6_waveComes_41 : decode cX6_waveComes 41 = .ok (.iload 5, 2) := dk_21 5 (dk_at dksX6_waveComes_1 17 rfl rfl)
theorem dX6_waveComes_43 : decode cX6_waveComes 43 = .ok (.imul, 1) := dk_104 (dk_at dksX6_waveComes_1 19 rfl rfl)
theorem dX6_waveComes_44 : decode cX6_waveComes 44 = .ok (.iload 4, 2) := dk_21 4 (dk_at dksX6_waveComes_1 20 rfl rfl)
theorem dX6_waveComes_46 : decode cX6_waveComes 46 = .ok (.iadd, 1) := dk_96 (dk_at dksX6_waveComes_1 22 rfl rfl)
theorem dX6_waveComes_47 : decode cX6_waveComes 47 = .ok (.istore 6, 2) := dk_54 6 (dk_at dksX6_waveComes_2 0 rfl rfl)
theorem dX6_waveComes_49 : decode cX6_waveComes 49 = .ok (.aload_n 1, 1) := dk_43 (dk_at dksX6_waveComes_2 2 rfl rfl)
theorem dX6_waveComes_50 : decode cX6_waveComes 50 = .ok (.sipush 192, 3) := dk_17 0 192 (dk_at dksX6_waveComes_2 3 rfl rfl)
theorem dX6_waveComes_53 : decode cX6_waveComes 53 = .ok (.iload 6, 2) := dk_21 6 (dk_at dksX6_waveComes_2 6 rfl rfl)
theorem dX6_waveComes_55 : decode cX6_waveComes 55 = .ok (.iadd, 1) := dk_96 (dk_at dksX6_waveComes_2 8 rfl rfl)
theorem dX6_waveComes_56 : decode cX6_waveComes 56 = .ok (.iaload, 1) := dk_46 (dk_at dksX6_waveComes_2 9 rfl rfl)
theorem dX6_waveComes_57 : decode cX6_waveComes 57 = .ok (.iconst 1, 1) := dk_4 (dk_at dksX6_waveComes_2 10 rfl rfl)
theorem dX6_waveComes_58 : decode cX6_waveComes 58 = .ok (.if_icmp .ne 31, 3) := dk_160 0 31 (dk_at dksX6_waveComes_2 11 rfl rfl)
theorem dX6_waveComes_61 : decode cX6_waveComes 61 = .ok (.iload 5, 2) := dk_21 5 (dk_at dksX6_waveComes_2 14 rfl rfl)
theorem dX6_waveComes_63 : decode cX6_waveComes 63 = .ok (.iconst 1, 1) := dk_4 (dk_at dksX6_waveComes_2 16 rfl rfl)
theorem dX6_waveComes_64 : decode cX6_waveComes 64 = .ok (.iadd, 1) := dk_96 (dk_at dksX6_waveComes_2 17 rfl rfl)
theorem dX6_waveComes_65 : decode cX6_waveComes 65 = .ok (.aload_n 0, 1) := dk_42 (dk_at dksX6_waveComes_2 18 rfl rfl)
theorem dX6_waveComes_66 : decode cX6_waveComes 66 = .ok (.getfield 204, 3) := dk_180 0 204 (dk_at dksX6_waveComes_2 19 rfl rfl)
theorem dX6_waveComes_69 : decode cX6_waveComes 69 = .ok (.if_icmp .ge 87, 3) := dk_162 0 87 (dk_at dksX6_waveComes_3 0 rfl rfl)
theorem dX6_waveComes_72 : decode cX6_waveComes 72 = .ok (.aload_n 1, 1) := dk_43 (dk_at dksX6_waveComes_3 3 rfl rfl)
theorem dX6_waveComes_73 : decode cX6_waveComes 73 = .ok (.bipush 64, 2) := dk_16 64 (dk_at dksX6_waveComes_3 4 rfl rfl)
theorem dX6_waveComes_75 : decode cX6_waveComes 75 = .ok (.iload 6, 2) := dk_21 6 (dk_at dksX6_waveComes_3 6 rfl rfl)
theorem dX6_waveComes_77 : decode cX6_waveComes 77 = .ok (.iadd, 1) := dk_96 (dk_at dksX6_waveComes_3 8 rfl rfl)
theorem dX6_waveComes_78 : decode cX6_waveComes 78 = .ok (.aload_n 0, 1) := dk_42 (dk_at dksX6_waveComes_3 9 rfl rfl)
theorem dX6_waveComes_79 : decode cX6_waveComes 79 = .ok (.getfield 201, 3) := dk_180 0 201 (dk_at dksX6_waveComes_3 10 rfl rfl)
theorem dX6_waveComes_82 : decode cX6_waveComes 82 = .ok (.iadd, 1) := dk_96 (dk_at dksX6_waveComes_3 13 rfl rfl)
theorem dX6_waveComes_83 : decode cX6_waveComes 83 = .ok (.bipush 16, 2) := dk_16 16 (dk_at dksX6_waveComes_3 14 rfl rfl)
theorem dX6_waveComes_85 : decode cX6_waveComes 85 = .ok (.iastore, 1) := dk_79 (dk_at dksX6_waveComes_3 16 rfl rfl)
theorem dX6_waveComes_86 : decode cX6_waveComes 86 = .ok (.goto 70, 3) := dk_167 0 70 (dk_at dksX6_waveComes_3 17 rfl rfl)
theorem dX6_waveComes_89 : decode cX6_waveComes 89 = .ok (.aload_n 1, 1) := dk_43 (dk_at dksX6_waveComes_3 20 rfl rfl)
theorem dX6_waveComes_90 : decode cX6_waveComes 90 = .ok (.bipush 64, 2) := dk_16 64 (dk_at dksX6_waveComes_3 21 rfl rfl)
theorem dX6_waveComes_92 : decode cX6_waveComes 92 = .ok (.iload 6, 2) := dk_21 6 (dk_at dksX6_waveComes_4 0 rfl rfl)
theorem dX6_waveComes_94 : decode cX6_waveComes 94 = .ok (.iadd, 1) := dk_96 (dk_at dksX6_waveComes_4 2 rfl rfl)
theorem dX6_waveComes_95 : decode cX6_waveComes 95 = .ok (.bipush 16, 2) := dk_16 16 (dk_at dksX6_waveComes_4 3 rfl rfl)
theorem dX6_waveComes_97 : decode cX6_waveComes 97 = .ok (.iastore, 1) := dk_79 (dk_at dksX6_waveComes_4 5 rfl rfl)
theorem dX6_waveComes_98 : decode cX6_waveComes 98 = .ok (.aload_n 1, 1) := dk_43 (dk_at dksX6_waveComes_4 6 rfl rfl)
theorem dX6_waveComes_99 : decode cX6_waveComes 99 = .ok (.iconst 0, 1) := dk_3 (dk_at dksX6_waveComes_4 7 rfl rfl)
theorem dX6_waveComes_100 : decode cX6_waveComes 100 = .ok (.iload 6, 2) := dk_21 6 (dk_at dksX6_waveComes_4 8 rfl rfl)
theorem dX6_waveComes_102 : decode cX6_waveComes 102 = .ok (.iadd, 1) := dk_96 (dk_at dksX6_waveComes_4 10 rfl rfl)
theorem dX6_waveComes_103 : decode cX6_waveComes 103 = .ok (.iaload, 1) := dk_46 (dk_at dksX6_waveComes_4 11 rfl rfl)
theorem dX6_waveComes_104 : decode cX6_waveComes 104 = .ok (.iload_n 3, 1) := dk_29 (dk_at dksX6_waveComes_4 12 rfl rfl)
theorem dX6_waveComes_105 : decode cX6_waveComes 105 = .ok (.if_icmp .gt 6, 3) := dk_163 0 6 (dk_at dksX6_waveComes_4 13 rfl rfl)
theorem dX6_waveComes_108 : decode cX6_waveComes 108 = .ok (.goto 42, 3) := dk_167 0 42 (dk_at dksX6_waveComes_4 16 rfl rfl)
theorem dX6_waveComes_111 : decode cX6_waveComes 111 = .ok (.aload_n 0, 1) := dk_42 (dk_at dksX6_waveComes_4 19 rfl rfl)
theorem dX6_waveComes_112 : decode cX6_waveComes 112 = .ok (.getfield 264, 3) := dk_180 1 8 (dk_at dksX6_waveComes_4 20 rfl rfl)
theorem dX6_waveComes_115 : decode cX6_waveComes 115 = .ok (.aload_n 1, 1) := dk_43 (dk_at dksX6_waveComes_4 23 rfl rfl)
theorem dX6_waveComes_116 : decode cX6_waveComes 116 = .ok (.iconst 0, 1) := dk_3 (dk_at dksX6_waveComes_5 0 rfl rfl)
theorem dX6_waveComes_117 : decode cX6_waveComes 117 = .ok (.iload 6, 2) := dk_21 6 (dk_at dksX6_waveComes_5 1 rfl rfl)
theorem dX6_waveComes_119 : decode cX6_waveComes 119 = .ok (.iadd, 1) := dk_96 (dk_at dksX6_waveComes_5 3 rfl rfl)
theorem dX6_waveComes_120 : decode cX6_waveComes 120 = .ok (.iaload, 1) := dk_46 (dk_at dksX6_waveComes_5 4 rfl rfl)
theorem dX6_waveComes_121 : decode cX6_waveComes 121 = .ok (.invokestatic 370, 3) := dk_184 1 114 (dk_at dksX6_waveComes_5 5 rfl rfl)
theorem dX6_waveComes_124 : decode cX6_waveComes 124 = .ok (.istore 7, 2) := dk_54 7 (dk_at dksX6_waveComes_5 8 rfl rfl)
theorem dX6_waveComes_126 : decode cX6_waveComes 126 = .ok (.aload_n 1, 1) := dk_43 (dk_at dksX6_waveComes_5 10 rfl rfl)
theorem dX6_waveComes_127 : decode cX6_waveComes 127 = .ok (.iconst 0, 1) := dk_3 (dk_at dksX6_waveComes_5 11 rfl rfl)
theorem dX6_waveComes_128 : decode cX6_waveComes 128 = .ok (.iload 6, 2) := dk_21 6 (dk_at dksX6_waveComes_5 12 rfl rfl)
theorem dX6_waveComes_130 : decode cX6_waveComes 130 = .ok (.iadd, 1) := dk_96 (dk_at dksX6_waveComes_5 14 rfl rfl)
theorem dX6_waveComes_131 : decode cX6_waveComes 131 = .ok (.dup2, 1) := dk_92 (dk_at dksX6_waveComes_5 15 rfl rfl)
theorem dX6_waveComes_132 : decode cX6_waveComes 132 = .ok (.iaload, 1) := dk_46 (dk_at dksX6_waveComes_5 16 rfl rfl)
theorem dX6_waveComes_133 : decode cX6_waveComes 133 = .ok (.iload 7, 2) := dk_21 7 (dk_at dksX6_waveComes_5 17 rfl rfl)
theorem dX6_waveComes_135 : decode cX6_waveComes 135 = .ok (.isub, 1) := dk_100 (dk_at dksX6_waveComes_5 19 rfl rfl)
theorem dX6_waveComes_136 : decode cX6_waveComes 136 = .ok (.iastore, 1) := dk_79 (dk_at dksX6_waveComes_5 20 rfl rfl)
theorem dX6_waveComes_137 : decode cX6_waveComes 137 = .ok (.aload_n 1, 1) := dk_43 (dk_at dksX6_waveComes_5 21 rfl rfl)
theorem dX6_waveComes_138 : decode cX6_waveComes 138 = .ok (.sipush 269, 3) := dk_17 1 13 (dk_at dksX6_waveComes_6 0 rfl rfl)
theorem dX6_waveComes_141 : decode cX6_waveComes 141 = .ok (.dup2, 1) := dk_92 (dk_at dksX6_waveComes_6 3 rfl rfl)
theorem dX6_waveComes_142 : decode cX6_waveComes 142 = .ok (.iaload, 1) := dk_46 (dk_at dksX6_waveComes_6 4 rfl rfl)
theorem dX6_waveComes_143 : decode cX6_waveComes 143 = .ok (.iload 7, 2) := dk_21 7 (dk_at dksX6_waveComes_6 5 rfl rfl)
theorem dX6_waveComes_145 : decode cX6_waveComes 145 = .ok (.iadd, 1) := dk_96 (dk_at dksX6_waveComes_6 7 rfl rfl)
theorem dX6_waveComes_146 : decode cX6_waveComes 146 = .ok (.iastore, 1) := dk_79 (dk_at dksX6_waveComes_6 8 rfl rfl)
theorem dX6_waveComes_147 : decode cX6_waveComes 147 = .ok (.goto 9, 3) := dk_167 0 9 (dk_at dksX6_waveComes_6 9 rfl rfl)
theorem dX6_waveComes_150 : decode cX6_waveComes 150 = .ok (.iinc 5 1, 3) := dk_132 5 1 (dk_at dksX6_waveComes_6 12 rfl rfl)
theorem dX6_waveComes_153 : decode cX6_waveComes 153 = .ok (.goto (-129), 3) := dk_167 255 127 (dk_at dksX6_waveComes_6 15 rfl rfl)
theorem dX6_waveComes_156 : decode cX6_waveComes 156 = .ok (.iinc 4 1, 3) := dk_132 4 1 (dk_at dksX6_waveComes_6 18 rfl rfl)
theorem dX6_waveComes_159 : decode cX6_waveComes 159 = .ok (.goto (-147), 3) := dk_167 255 109 (dk_at dksX6_waveComes_6 21 rfl rfl)
theorem dX6_waveComes_162 : decode cX6_waveComes 162 = .ok (.return_, 1) := dk_177 (dk_at dksX6_waveComes_7 0 rfl rfl)
abbrev cX6_draw : ByteArray := prog_16_method_52_code
def yX6_draw : MethodName := ⟨RX6, "draw", "([II)I"⟩
def dkwX6_draw_1 : List UInt8 := [136, 79, 32, 20, 1, 127, 109, 27, 133, 113, 136, 172]
abbrev dktX6_draw_1 : List UInt8 := dkwX6_draw_1 ++ []
def dkwX6_draw_0 : List UInt8 := [20, 1, 121, 42, 17, 1, 32, 46, 133, 105, 20, 1, 123, 97, 20, 1, 125, 113, 65, 42, 17, 1, 32, 32]
abbrev dktX6_draw_0 : List UInt8 := dkwX6_draw_0 ++ dktX6_draw_1
theorem dksX6_draw_0 : cX6_draw.data.toList.drop 0 = dktX6_draw_0 := by decide +kernel
theorem dksX6_draw_1 : cX6_draw.data.toList.drop 24 = dktX6_draw_1 := dk_seg dksX6_draw_0 24 rfl rfl
theorem dX6_draw_0 : decode cX6_draw 0 = .ok (.ldc2_w 377, 3) := dk_20 1 121 (dk_at dksX6_draw_0 0 rfl rfl)
theorem dX6_draw_3 : decode cX6_draw 3 = .ok (.aload_n 0, 1) := dk_42 (dk_at dksX6_draw_0 3 rfl rfl)
theorem dX6_draw_4 : decode cX6_draw 4 = .ok (.sipush 288, 3) := dk_17 1 32 (dk_at dksX6_draw_0 4 rfl rfl)
theorem dX6_draw_7 : decode cX6_draw 7 = .ok (.iaload, 1) := dk_46 (dk_at dksX6_draw_0 7 rfl rfl)
theorem dX6_draw_8 : decode cX6_draw 8 = .ok (.i2l, 1) := dk_133 (dk_at dksX6_draw_0 8 rfl rfl)
theorem dX6_draw_9 : decode cX6_draw 9 = .ok (.lmul, 1) := dk_105 (dk_at dksX6_draw_0 9 rfl rfl)
theorem dX6_draw_10 : decode cX6_draw 10 = .ok (.ldc2_w 379, 3) := dk_20 1 123 (dk_at dksX6_draw_0 10 rfl rfl)
theorem dX6_draw_13 : decode cX6_draw 13 = .ok (.ladd, 1) := dk_97 (dk_at dksX6_draw_0 13 rfl rfl)
theorem dX6_draw_14 : decode cX6_draw 14 = .ok (.ldc2_w 381, 3) := dk_20 1 125 (dk_at dksX6_draw_0 14 rfl rfl)
theorem dX6_draw_17 : decode cX6_draw 17 = .ok (.lrem, 1) := dk_113 (dk_at dksX6_draw_0 17 rfl rfl)
theorem dX6_draw_18 : decode cX6_draw 18 = .ok (.lstore_n 2, 1) := dk_65 (dk_at dksX6_draw_0 18 rfl rfl)
theorem dX6_draw_19 : decode cX6_draw 19 = .ok (.aload_n 0, 1) := dk_42 (dk_at dksX6_draw_0 19 rfl rfl)
theorem dX6_draw_20 : decode cX6_draw 20 = .ok (.sipush 288, 3) := dk_17 1 32 (dk_at dksX6_draw_0 20 rfl rfl)
theorem dX6_draw_23 : decode cX6_draw 23 = .ok (.lload_n 2, 1) := dk_32 (dk_at dksX6_draw_0 23 rfl rfl)
theorem dX6_draw_24 : decode cX6_draw 24 = .ok (.l2i, 1) := dk_136 (dk_at dksX6_draw_1 0 rfl rfl)
theorem dX6_draw_25 : decode cX6_draw 25 = .ok (.iastore, 1) := dk_79 (dk_at dksX6_draw_1 1 rfl rfl)
theorem dX6_draw_26 : decode cX6_draw 26 = .ok (.lload_n 2, 1) := dk_32 (dk_at dksX6_draw_1 2 rfl rfl)
theorem dX6_draw_27 : decode cX6_draw 27 = .ok (.ldc2_w 383, 3) := dk_20 1 127 (dk_at dksX6_draw_1 3 rfl rfl)
theorem dX6_draw_30 : decode cX6_draw 30 = .ok (.ldiv, 1) := dk_109 (dk_at dksX6_draw_1 6 rfl rfl)
theorem dX6_draw_31 : decode cX6_draw 31 = .ok (.iload_n 1, 1) := dk_27 (dk_at dksX6_draw_1 7 rfl rfl)
theorem dX6_draw_32 : decode cX6_draw 32 = .ok (.i2l, 1) := dk_133 (dk_at dksX6_draw_1 8 rfl rfl)
theorem dX6_draw_33 : decode cX6_draw 33 = .ok (.lrem, 1) := dk_113 (dk_at dksX6_draw_1 9 rfl rfl)
theorem dX6_draw_34 : decode cX6_draw 34 = .ok (.l2i, 1) := dk_136 (dk_at dksX6_draw_1 10 rfl rfl)
theorem dX6_draw_35 : decode cX6_draw 35 = .ok (.ireturn, 1) := dk_172 (dk_at dksX6_draw_1 11 rfl rfl)
abbrev cX6_sun : ByteArray := prog_16_method_54_code
def yX6_sun : MethodName := ⟨RX6, "sun", "([I)V"⟩
def dkwX6_sun_3 : List UInt8 := [167, 255, 208, 177]
abbrev dktX6_sun_3 : List UInt8 := dkwX6_sun_3 ++ []
def dkwX6_sun_2 : List UInt8 := [43, 3, 28, 96, 46, 16, 10, 161, 0, 7, 5, 167, 0, 4, 4, 100, 184, 1, 103, 79, 132, 2, 1]
abbrev dktX6_sun_2 : List UInt8 := dkwX6_sun_2 ++ dktX6_sun_3
def dkwX6_sun_1 : List UInt8 := [42, 180, 0, 201, 42, 180, 0, 204, 104, 162, 0, 41, 43, 16, 64, 28, 96, 3, 43, 16, 64, 28, 96, 46]
abbrev dktX6_sun_1 : List UInt8 := dkwX6_sun_1 ++ dktX6_sun_2
def dkwX6_sun_0 : List UInt8 := [43, 17, 1, 14, 46, 4, 96, 42, 180, 0, 245, 5, 46, 112, 153, 0, 4, 177, 42, 180, 0, 201, 61, 28]
abbrev dktX6_sun_0 : List UInt8 := dkwX6_sun_0 ++ dktX6_sun_1
theorem dksX6_sun_0 : cX6_sun.data.toList.drop 0 = dktX6_sun_0 := by decide +kernel
theorem dksX6_sun_1 : cX6_sun.data.toList.drop 24 = dktX6_sun_1 := dk_seg dksX6_sun_0 24 rfl rfl
theorem dksX6_sun_2 : cX6_sun.data.toList.drop 48 = dktX6_sun_2 := dk_seg dksX6_sun_1 24 rfl rfl
theorem dksX6_sun_3 : cX6_sun.data.toList.drop 71 = dktX6_sun_3 := dk_seg dksX6_sun_2 23 rfl rfl
theorem dX6_sun_0 : decode cX6_sun 0 = .ok (.aload_n 1, 1) := dk_43 (dk_at dksX6_sun_0 0 rfl rfl)
theorem dX6_sun_1 : decode cX6_sun 1 = .ok (.sipush 270, 3) := dk_17 1 14 (dk_at dksX6_sun_0 1 rfl rfl)
theorem dX6_sun_4 : decode cX6_sun 4 = .ok (.iaload, 1) := dk_46 (dk_at dksX6_sun_0 4 rfl rfl)
theorem dX6_sun_5 : decode cX6_sun 5 = .ok (.iconst 1, 1) := dk_4 (dk_at dksX6_sun_0 5 rfl rfl)
theorem dX6_sun_6 : decode cX6_sun 6 = .ok (.iadd, 1) := dk_96 (dk_at dksX6_sun_0 6 rfl rfl)
theorem dX6_sun_7 : decode cX6_sun 7 = .ok (.aload_n 0, 1) := dk_42 (dk_at dksX6_sun_0 7 rfl rfl)
theorem dX6_sun_8 : decode cX6_sun 8 = .ok (.getfield 245, 3) := dk_180 0 245 (dk_at dksX6_sun_0 8 rfl rfl)
theorem dX6_sun_11 : decode cX6_sun 11 = .ok (.iconst 2, 1) := dk_5 (dk_at dksX6_sun_0 11 rfl rfl)
theorem dX6_sun_12 : decode cX6_sun 12 = .ok (.iaload, 1) := dk_46 (dk_at dksX6_sun_0 12 rfl rfl)
theorem dX6_sun_13 : decode cX6_sun 13 = .ok (.irem, 1) := dk_112 (dk_at dksX6_sun_0 13 rfl rfl)
theorem dX6_sun_14 : decode cX6_sun 14 = .ok (.ifCond .eq 4, 3) := dk_153 0 4 (dk_at dksX6_sun_0 14 rfl rfl)
theorem dX6_sun_17 : decode cX6_sun 17 = .ok (.return_, 1) := dk_177 (dk_at dksX6_sun_0 17 rfl rfl)
theorem dX6_sun_18 : decode cX6_sun 18 = .ok (.aload_n 0, 1) := dk_42 (dk_at dksX6_sun_0 18 rfl rfl)
theorem dX6_sun_19 : decode cX6_sun 19 = .ok (.getfield 201, 3) := dk_180 0 201 (dk_at dksX6_sun_0 19 rfl rfl)
theorem dX6_sun_22 : decode cX6_sun 22 = .ok (.istore_n 2, 1) := dk_61 (dk_at dksX6_sun_0 22 rfl rfl)
theorem dX6_sun_23 : decode cX6_sun 23 = .ok (.iload_n 2, 1) := dk_28 (dk_at dksX6_sun_0 23 rfl rfl)
theorem dX6_sun_24 : decode cX6_sun 24 = .ok (.aload_n 0, 1) := dk_42 (dk_at dksX6_sun_1 0 rfl rfl)
theorem dX6_sun_25 : decode cX6_sun 25 = .ok (.getfield 201, 3) := dk_180 0 201 (dk_at dksX6_sun_1 1 rfl rfl)
theorem dX6_sun_28 : decode cX6_sun 28 = .ok (.aload_n 0, 1) := dk_42 (dk_at dksX6_sun_1 4 rfl rfl)
theorem dX6_sun_29 : decode cX6_sun 29 = .ok (.getfield 204, 3) := dk_180 0 204 (dk_at dksX6_sun_1 5 rfl rfl)
theorem dX6_sun_32 : decode cX6_sun 32 = .ok (.imul, 1) := dk_104 (dk_at dksX6_sun_1 8 rfl rfl)
theorem dX6_sun_33 : decode cX6_sun 33 = .ok (.if_icmp .ge 41, 3) := dk_162 0 41 (dk_at dksX6_sun_1 9 rfl rfl)
theorem dX6_sun_36 : decode cX6_sun 36 = .ok (.aload_n 1, 1) := dk_43 (dk_at dksX6_sun_1 12 rfl rfl)
theorem dX6_sun_37 : decode cX6_sun 37 = .ok (.bipush 64, 2) := dk_16 64 (dk_at dksX6_sun_1 13 rfl rfl)
theorem dX6_sun_39 : decode cX6_sun 39 = .ok (.iload_n 2, 1) := dk_28 (dk_at dksX6_sun_1 15 rfl rfl)
theorem dX6_sun_40 : decode cX6_sun 40 = .ok (.iadd, 1) := dk_96 (dk_at dksX6_sun_1 16 rfl rfl)
theorem dX6_sun_41 : decode cX6_sun 41 = .ok (.iconst 0, 1) := dk_3 (dk_at dksX6_sun_1 17 rfl rfl)
theorem dX6_sun_42 : decode cX6_sun 42 = .ok (.aload_n 1, 1) := dk_43 (dk_at dksX6_sun_1 18 rfl rfl)
theorem dX6_sun_43 : decode cX6_sun 43 = .ok (.bipush 64, 2) := dk_16 64 (dk_at dksX6_sun_1 19 rfl rfl)
theorem dX6_sun_45 : decode cX6_sun 45 = .ok (.iload_n 2, 1) := dk_28 (dk_at dksX6_sun_1 21 rfl rfl)
theorem dX6_sun_46 : decode cX6_sun 46 = .ok (.iadd, 1) := dk_96 (dk_at dksX6_sun_1 22 rfl rfl)
theorem dX6_sun_47 : decode cX6_sun 47 = .ok (.iaload, 1) := dk_46 (dk_at dksX6_sun_1 23 rfl rfl)
theorem dX6_sun_48 : decode cX6_sun 48 = .ok (.aload_n 1, 1) := dk_43 (dk_at dksX6_sun_2 0 rfl rfl)
theorem dX6_sun_49 : decode cX6_sun 49 = .ok (.iconst 0, 1) := dk_3 (dk_at dksX6_sun_2 1 rfl rfl)
theorem dX6_sun_50 : decode cX6_sun 50 = .ok (.iload_n 2, 1) := dk_28 (dk_at dksX6_sun_2 2 rfl rfl)
theorem dX6_sun_51 : decode cX6_sun 51 = .ok (.iadd, 1) := dk_96 (dk_at dksX6_sun_2 3 rfl rfl)
theorem dX6_sun_52 : decode cX6_sun 52 = .ok (.iaload, 1) := dk_46 (dk_at dksX6_sun_2 4 rfl rfl)
theorem dX6_sun_53 : decode cX6_sun 53 = .ok (.bipush 10, 2) := dk_16 10 (dk_at dksX6_sun_2 5 rfl rfl)
theorem dX6_sun_55 : decode cX6_sun 55 = .ok (.if_icmp .lt 7, 3) := dk_161 0 7 (dk_at dksX6_sun_2 7 rfl rfl)
theorem dX6_sun_58 : decode cX6_sun 58 = .ok (.iconst 2, 1) := dk_5 (dk_at dksX6_sun_2 10 rfl rfl)
theorem dX6_sun_59 : decode cX6_sun 59 = .ok (.goto 4, 3) := dk_167 0 4 (dk_at dksX6_sun_2 11 rfl rfl)
theorem dX6_sun_62 : decode cX6_sun 62 = .ok (.iconst 1, 1) := dk_4 (dk_at dksX6_sun_2 14 rfl rfl)
theorem dX6_sun_63 : decode cX6_sun 63 = .ok (.isub, 1) := dk_100 (dk_at dksX6_sun_2 15 rfl rfl)
theorem dX6_sun_64 : decode cX6_sun 64 = .ok (.invokestatic 359, 3) := dk_184 1 103 (dk_at dksX6_sun_2 16 rfl rfl)
theorem dX6_sun_67 : decode cX6_sun 67 = .ok (.iastore, 1) := dk_79 (dk_at dksX6_sun_2 19 rfl rfl)
theorem dX6_sun_68 : decode cX6_sun 68 = .ok (.iinc 2 1, 3) := dk_132 2 1 (dk_at dksX6_sun_2 20 rfl rfl)
theorem dX6_sun_71 : decode cX6_sun 71 = .ok (.goto (-48), 3) := dk_167 255 208 (dk_at dksX6_sun_3 0 rfl rfl)
theorem dX6_sun_74 : decode cX6_sun 74 = .ok (.return_, 1) := dk_177 (dk_at dksX6_sun_3 3 rfl rfl)
abbrev cX6_slides : ByteArray := prog_16_method_56_code
def yX6_slides : MethodName := ⟨RX6, "slides", "([I)V"⟩
def dkwX6_slides_8 : List UInt8 := [43, 17, 1, 16, 46, 96, 79, 177]
abbrev dktX6_slides_8 : List UInt8 := dkwX6_slides_8 ++ []
def dkwX6_slides_7 : List UInt8 := [46, 28, 153, 0, 7, 4, 167, 0, 4, 3, 96, 79, 132, 3, 1, 167, 255, 94, 43, 17, 1, 15, 92, 46]
abbrev dktX6_slides_7 : List UInt8 := dkwX6_slides_7 ++ dktX6_slides_8
def dkwX6_slides_6 : List UInt8 := [167, 255, 153, 43, 17, 1, 16, 46, 21, 4, 164, 0, 7, 4, 167, 0, 4, 3, 61, 43, 17, 1, 17, 92]
abbrev dktX6_slides_6 : List UInt8 := dkwX6_slides_6 ++ dktX6_slides_7
def dkwX6_slides_5 : List UInt8 := [167, 0, 21, 42, 43, 21, 5, 21, 6, 182, 1, 110, 43, 17, 1, 16, 92, 46, 4, 96, 79, 132, 5, 1]
abbrev dktX6_slides_5 : List UInt8 := dkwX6_slides_5 ++ dktX6_slides_6
def dkwX6_slides_4 : List UInt8 := [42, 43, 16, 64, 21, 5, 96, 46, 43, 17, 0, 128, 21, 5, 96, 46, 182, 1, 139, 163, 0, 6]
abbrev dktX6_slides_4 : List UInt8 := dkwX6_slides_4 ++ dktX6_slides_5
def dkwX6_slides_3 : List UInt8 := [182, 1, 136, 54, 6, 21, 6, 2, 159, 0, 59, 43, 3, 21, 5, 96, 46, 43, 3, 21, 6, 96, 46, 100]
abbrev dktX6_slides_3 : List UInt8 := dkwX6_slides_3 ++ dktX6_slides_4
def dkwX6_slides_2 : List UInt8 := [162, 0, 95, 43, 17, 0, 192, 21, 5, 96, 46, 4, 160, 0, 6, 167, 0, 74, 42, 43, 21, 5]
abbrev dktX6_slides_2 : List UInt8 := dkwX6_slides_2 ++ dktX6_slides_3
def dkwX6_slides_1 : List UInt8 := [153, 0, 158, 43, 17, 1, 16, 46, 54, 4, 3, 54, 5, 21, 5, 42, 180, 0, 201, 42, 180, 0, 204, 104]
abbrev dktX6_slides_1 : List UInt8 := dkwX6_slides_1 ++ dktX6_slides_2
def dkwX6_slides_0 : List UInt8 := [43, 17, 1, 16, 3, 79, 43, 17, 1, 17, 3, 79, 4, 61, 3, 62, 29, 16, 50, 162, 0, 162, 28]
abbrev dktX6_slides_0 : List UInt8 := dkwX6_slides_0 ++ dktX6_slides_1
theorem dksX6_slides_0 : cX6_slides.data.toList.drop 0 = dktX6_slides_0 := by decide +kernel
theorem dksX6_slides_1 : cX6_slides.data.toList.drop 23 = dktX6_slides_1 := dk_seg dksX6_slides_0 23 rfl rfl
theorem dksX6_slides_2 : cX6_slides.data.toList.drop 47 = dktX6_slides_2 := dk_seg dksX6_slides_1 24 rfl rfl
theorem dksX6_slides_3 : cX6_slides.data.toList.drop 69 = dktX6_slides_3 := dk_seg dksX6_slides_2 22 rfl rfl
theorem dksX6_slides_4 : cX6_slides.data.toList.drop 93 = dktX6_slides_4 := dk_seg dksX6_slides_3 24 rfl rfl
theorem dksX6_slides_5 : cX6_slides.data.toList.drop 115 = dktX6_slides_5 := dk_seg dksX6_slides_4 22 rfl rfl
theorem dksX6_slides_6 : cX6_slides.data.toList.drop 139 = dktX6_slides_6 := dk_seg dksX6_slides_5 24 rfl rfl
theorem dksX6_slides_7 : cX6_slides.data.toList.drop 163 = dktX6_slides_7 := dk_seg dksX6_slides_6 24 rfl rfl
theorem dksX6_slides_8 : cX6_slides.data.toList.drop 187 = dktX6_slides_8 := dk_seg dksX6_slides_7 24 rfl rfl
theorem dX6_slides_0 : decode cX6_slides 0 = .ok (.aload_n 1, 1) := dk_43 (dk_at dksX6_slides_0 0 rfl rfl)
theorem dX6_slides_1 : decode cX6_slides 1 = .ok (.sipush 272, 3) := dk_17 1 16 (dk_at dksX6_slides_0 1 rfl rfl)
theorem dX6_slides_4 : decode cX6_slides 4 = .ok (.iconst 0, 1) := dk_3 (dk_at dksX6_slides_0 4 rfl rfl)
theorem dX6_slides_5 : decode cX6_slides 5 = .ok (.iastore, 1) := dk_79 (dk_at dksX6_slides_0 5 rfl rfl)
theorem dX6_slides_6 : decode cX6_slides 6 = .ok (.aload_n 1, 1) := dk_43 (dk_at dksX6_slides_0 6 rfl rfl)
theorem dX6_slides_7 : decode cX6_slides 7 = .ok (.sipush 273, 3) := dk_17 1 17 (dk_at dksX6_slides_0 7 rfl rfl)
theorem dX6_slides_10 : decode cX6_slides 10 = .ok (.iconst 0, 1) := dk_3 (dk_at dksX6_slides_0 10 rfl rfl)
theorem dX6_slides_11 : decode cX6_slides 11 = .ok (.iastore, 1) := dk_79 (dk_at dksX6_slides_0 11 rfl rfl)
theorem dX6_slides_12 : decode cX6_slides 12 = .ok (.iconst 1, 1) := dk_4 (dk_at dksX6_slides_0 12 rfl rfl)
theorem dX6_slides_13 : decode cX6_slides 13 = .ok (.istore_n 2, 1) := dk_61 (dk_at dksX6_slides_0 13 rfl rfl)
theorem dX6_slides_14 : decode cX6_slides 14 = .ok (.iconst 0, 1) := dk_3 (dk_at dksX6_slides_0 14 rfl rfl)
theorem dX6_slides_15 : decode cX6_slides 15 = .ok (.istore_n 3, 1) := dk_62 (dk_at dksX6_slides_0 15 rfl rfl)
theorem dX6_slides_16 : decode cX6_slides 16 = .ok (.iload_n 3, 1) := dk_29 (dk_at dksX6_slides_0 16 rfl rfl)
theorem dX6_slides_17 : decode cX6_slides 17 = .ok (.bipush 50, 2) := dk_16 50 (dk_at dksX6_slides_0 17 rfl rfl)
theorem dX6_slides_19 : decode cX6_slides 19 = .ok (.if_icmp .ge 162, 3) := dk_162 0 162 (dk_at dksX6_slides_0 19 rfl rfl)
theorem dX6_slides_22 : decode cX6_slides 22 = .ok (.iload_n 2, 1) := dk_28 (dk_at dksX6_slides_0 22 rfl rfl)
theorem dX6_slides_23 : decode cX6_slides 23 = .ok (.ifCond .eq 158, 3) := dk_153 0 158 (dk_at dksX6_slides_1 0 rfl rfl)
theorem dX6_slides_26 : decode cX6_slides 26 = .ok (.aload_n 1, 1) := dk_43 (dk_at dksX6_slides_1 3 rfl rfl)
theorem dX6_slides_27 : decode cX6_slides 27 = .ok (.sipush 272, 3) := dk_17 1 16 (dk_at dksX6_slides_1 4 rfl rfl)
theorem dX6_slides_30 : decode cX6_slides 30 = .ok (.iaload, 1) := dk_46 (dk_at dksX6_slides_1 7 rfl rfl)
theorem dX6_slides_31 : decode cX6_slides 31 = .ok (.istore 4, 2) := dk_54 4 (dk_at dksX6_slides_1 8 rfl rfl)
theorem dX6_slides_33 : decode cX6_slides 33 = .ok (.iconst 0, 1) := dk_3 (dk_at dksX6_slides_1 10 rfl rfl)
theorem dX6_slides_34 : decode cX6_slides 34 = .ok (.istore 5, 2) := dk_54 5 (dk_at dksX6_slides_1 11 rfl rfl)
theorem dX6_slides_36 : decode cX6_slides 36 = .ok (.iload 5, 2) := dk_21 5 (dk_at dksX6_slides_1 13 rfl rfl)
theorem dX6_slides_38 : decode cX6_slides 38 = .ok (.aload_n 0, 1) := dk_42 (dk_at dksX6_slides_1 15 rfl rfl)
theorem dX6_slides_39 : decode cX6_slides 39 = .ok (.getfield 201, 3) := dk_180 0 201 (dk_at dksX6_slides_1 16 rfl rfl)
theorem dX6_slides_42 : decode cX6_slides 42 = .ok (.aload_n 0, 1) := dk_42 (dk_at dksX6_slides_1 19 rfl rfl)
theorem dX6_slides_43 : decode cX6_slides 43 = .ok (.getfield 204, 3) := dk_180 0 204 (dk_at dksX6_slides_1 20 rfl rfl)
theorem dX6_slides_46 : decode cX6_slides 46 = .ok (.imul, 1) := dk_104 (dk_at dksX6_slides_1 23 rfl rfl)
theorem dX6_slides_47 : decode cX6_slides 47 = .ok (.if_icmp .ge 95, 3) := dk_162 0 95 (dk_at dksX6_slides_2 0 rfl rfl)
theorem dX6_slides_50 : decode cX6_slides 50 = .ok (.aload_n 1, 1) := dk_43 (dk_at dksX6_slides_2 3 rfl rfl)
theorem dX6_slides_51 : decode cX6_slides 51 = .ok (.sipush 192, 3) := dk_17 0 192 (dk_at dksX6_slides_2 4 rfl rfl)
theorem dX6_slides_54 : decode cX6_slides 54 = .ok (.iload 5, 2) := dk_21 5 (dk_at dksX6_slides_2 7 rfl rfl)
theorem dX6_slides_56 : decode cX6_slides 56 = .ok (.iadd, 1) := dk_96 (dk_at dksX6_slides_2 9 rfl rfl)
theorem dX6_slides_57 : decode cX6_slides 57 = .ok (.iaload, 1) := dk_46 (dk_at dksX6_slides_2 10 rfl rfl)
theorem dX6_slides_58 : decode cX6_slides 58 = .ok (.iconst 1, 1) := dk_4 (dk_at dksX6_slides_2 11 rfl rfl)
theorem dX6_slides_59 : decode cX6_slides 59 = .ok (.if_icmp .ne 6, 3) := dk_160 0 6 (dk_at dksX6_slides_2 12 rfl rfl)
theorem dX6_slides_62 : decode cX6_slides 62 = .ok (.goto 74, 3) := dk_167 0 74 (dk_at dksX6_slides_2 15 rfl rfl)
theorem dX6_slides_65 : decode cX6_slides 65 = .ok (.aload_n 0, 1) := dk_42 (dk_at dksX6_slides_2 18 rfl rfl)
theorem dX6_slides_66 : decode cX6_slides 66 = .ok (.aload_n 1, 1) := dk_43 (dk_at dksX6_slides_2 19 rfl rfl)
theorem dX6_slides_67 : decode cX6_slides 67 = .ok (.iload 5, 2) := dk_21 5 (dk_at dksX6_slides_2 20 rfl rfl)
theorem dX6_slides_69 : decode cX6_slides 69 = .ok (.invokevirtual 392, 3) := dk_182 1 136 (dk_at dksX6_slides_3 0 rfl rfl)
theorem dX6_slides_72 : decode cX6_slides 72 = .ok (.istore 6, 2) := dk_54 6 (dk_at dksX6_slides_3 3 rfl rfl)
theorem dX6_slides_74 : decode cX6_slides 74 = .ok (.iload 6, 2) := dk_21 6 (dk_at dksX6_slides_3 5 rfl rfl)
theorem dX6_slides_76 : decode cX6_slides 76 = .ok (.iconst (-1), 1) := dk_2 (dk_at dksX6_slides_3 7 rfl rfl)
theorem dX6_slides_77 : decode cX6_slides 77 = .ok (.if_icmp .eq 59, 3) := dk_159 0 59 (dk_at dksX6_slides_3 8 rfl rfl)
theorem dX6_slides_80 : decode cX6_slides 80 = .ok (.aload_n 1, 1) := dk_43 (dk_at dksX6_slides_3 11 rfl rfl)
theorem dX6_slides_81 : decode cX6_slides 81 = .ok (.iconst 0, 1) := dk_3 (dk_at dksX6_slides_3 12 rfl rfl)
theorem dX6_slides_82 : decode cX6_slides 82 = .ok (.iload 5, 2) := dk_21 5 (dk_at dksX6_slides_3 13 rfl rfl)
theorem dX6_slides_84 : decode cX6_slides 84 = .ok (.iadd, 1) := dk_96 (dk_at dksX6_slides_3 15 rfl rfl)
theorem dX6_slides_85 : decode cX6_slides 85 = .ok (.iaload, 1) := dk_46 (dk_at dksX6_slides_3 16 rfl rfl)
theorem dX6_slides_86 : decode cX6_slides 86 = .ok (.aload_n 1, 1) := dk_43 (dk_at dksX6_slides_3 17 rfl rfl)
theorem dX6_slides_87 : decode cX6_slides 87 = .ok (.iconst 0, 1) := dk_3 (dk_at dksX6_slides_3 18 rfl rfl)
theorem dX6_slides_88 : decode cX6_slides 88 = .ok (.iload 6, 2) := dk_21 6 (dk_at dksX6_slides_3 19 rfl rfl)
theorem dX6_slides_90 : decode cX6_slides 90 = .ok (.iadd, 1) := dk_96 (dk_at dksX6_slides_3 21 rfl rfl)
theorem dX6_slides_91 : decode cX6_slides 91 = .ok (.iaload, 1) := dk_46 (dk_at dksX6_slides_3 22 rfl rfl)
theorem dX6_slides_92 : decode cX6_slides 92 = .ok (.isub, 1) := dk_100 (dk_at dksX6_slides_3 23 rfl rfl)
theorem dX6_slides_93 : decode cX6_slides 93 = .ok (.aload_n 0, 1) := dk_42 (dk_at dksX6_slides_4 0 rfl rfl)
theorem dX6_slides_94 : decode cX6_slides 94 = .ok (.aload_n 1, 1) := dk_43 (dk_at dksX6_slides_4 1 rfl rfl)
theorem dX6_slides_95 : decode cX6_slides 95 = .ok (.bipush 64, 2) := dk_16 64 (dk_at dksX6_slides_4 2 rfl rfl)
theorem dX6_slides_97 : decode cX6_slides 97 = .ok (.iload 5, 2) := dk_21 5 (dk_at dksX6_slides_4 4 rfl rfl)
theorem dX6_slides_99 : decode cX6_slides 99 = .ok (.iadd, 1) := dk_96 (dk_at dksX6_slides_4 6 rfl rfl)
theorem dX6_slides_100 : decode cX6_slides 100 = .ok (.iaload, 1) := dk_46 (dk_at dksX6_slides_4 7 rfl rfl)
theorem dX6_slides_101 : decode cX6_slides 101 = .ok (.aload_n 1, 1) := dk_43 (dk_at dksX6_slides_4 8 rfl rfl)
theorem dX6_slides_102 : decode cX6_slides 102 = .ok (.sipush 128, 3) := dk_17 0 128 (dk_at dksX6_slides_4 9 rfl rfl)
theorem dX6_slides_105 : decode cX6_slides 105 = .ok (.iload 5, 2) := dk_21 5 (dk_at dksX6_slides_4 12 rfl rfl)
theorem dX6_slides_107 : decode cX6_slides 107 = .ok (.iadd, 1) := dk_96 (dk_at dksX6_slides_4 14 rfl rfl)
theorem dX6_slides_108 : decode cX6_slides 108 = .ok (.iaload, 1) := dk_46 (dk_at dksX6_slides_4 15 rfl rfl)
theorem dX6_slides_109 : decode cX6_slides 109 = .ok (.invokevirtual 395, 3) := dk_182 1 139 (dk_at dksX6_slides_4 16 rfl rfl)
theorem dX6_slides_112 : decode cX6_slides 112 = .ok (.if_icmp .gt 6, 3) := dk_163 0 6 (dk_at dksX6_slides_4 19 rfl rfl)
theorem dX6_slides_115 : decode cX6_slides 115 = .ok (.goto 21, 3) := dk_167 0 21 (dk_at dksX6_slides_5 0 rfl rfl)
theorem dX6_slides_118 : decode cX6_slides 118 = .ok (.aload_n 0, 1) := dk_42 (dk_at dksX6_slides_5 3 rfl rfl)
theorem dX6_slides_119 : decode cX6_slides 119 = .ok (.aload_n 1, 1) := dk_43 (dk_at dksX6_slides_5 4 rfl rfl)
theorem dX6_slides_120 : decode cX6_slides 120 = .ok (.iload 5, 2) := dk_21 5 (dk_at dksX6_slides_5 5 rfl rfl)
theorem dX6_slides_122 : decode cX6_slides 122 = .ok (.iload 6, 2) := dk_21 6 (dk_at dksX6_slides_5 7 rfl rfl)
theorem dX6_slides_124 : decode cX6_slides 124 = .ok (.invokevirtual 366, 3) := dk_182 1 110 (dk_at dksX6_slides_5 9 rfl rfl)
theorem dX6_slides_127 : decode cX6_slides 127 = .ok (.aload_n 1, 1) := dk_43 (dk_at dksX6_slides_5 12 rfl rfl)
theorem dX6_slides_128 : decode cX6_slides 128 = .ok (.sipush 272, 3) := dk_17 1 16 (dk_at dksX6_slides_5 13 rfl rfl)
theorem dX6_slides_131 : decode cX6_slides 131 = .ok (.dup2, 1) := dk_92 (dk_at dksX6_slides_5 16 rfl rfl)
theorem dX6_slides_132 : decode cX6_slides 132 = .ok (.iaload, 1) := dk_46 (dk_at dksX6_slides_5 17 rfl rfl)
theorem dX6_slides_133 : decode cX6_slides 133 = .ok (.iconst 1, 1) := dk_4 (dk_at dksX6_slides_5 18 rfl rfl)
theorem dX6_slides_134 : decode cX6_slides 134 = .ok (.iadd, 1) := dk_96 (dk_at dksX6_slides_5 19 rfl rfl)
theorem dX6_slides_135 : decode cX6_slides 135 = .ok (.iastore, 1) := dk_79 (dk_at dksX6_slides_5 20 rfl rfl)
theorem dX6_slides_136 : decode cX6_slides 136 = .ok (.iinc 5 1, 3) := dk_132 5 1 (dk_at dksX6_slides_5 21 rfl rfl)
theorem dX6_slides_139 : decode cX6_slides 139 = .ok (.goto (-103), 3) := dk_167 255 153 (dk_at dksX6_slides_6 0 rfl rfl)
theorem dX6_slides_142 : decode cX6_slides 142 = .ok (.aload_n 1, 1) := dk_43 (dk_at dksX6_slides_6 3 rfl rfl)
theorem dX6_slides_143 : decode cX6_slides 143 = .ok (.sipush 272, 3) := dk_17 1 16 (dk_at dksX6_slides_6 4 rfl rfl)
theorem dX6_slides_146 : decode cX6_slides 146 = .ok (.iaload, 1) := dk_46 (dk_at dksX6_slides_6 7 rfl rfl)
theorem dX6_slides_147 : decode cX6_slides 147 = .ok (.iload 4, 2) := dk_21 4 (dk_at dksX6_slides_6 8 rfl rfl)
theorem dX6_slides_149 : decode cX6_slides 149 = .ok (.if_icmp .le 7, 3) := dk_164 0 7 (dk_at dksX6_slides_6 10 rfl rfl)
theorem dX6_slides_152 : decode cX6_slides 152 = .ok (.iconst 1, 1) := dk_4 (dk_at dksX6_slides_6 13 rfl rfl)
theorem dX6_slides_153 : decode cX6_slides 153 = .ok (.goto 4, 3) := dk_167 0 4 (dk_at dksX6_slides_6 14 rfl rfl)
theorem dX6_slides_156 : decode cX6_slides 156 = .ok (.iconst 0, 1) := dk_3 (dk_at dksX6_slides_6 17 rfl rfl)
theorem dX6_slides_157 : decode cX6_slides 157 = .ok (.istore_n 2, 1) := dk_61 (dk_at dksX6_slides_6 18 rfl rfl)
theorem dX6_slides_158 : decode cX6_slides 158 = .ok (.aload_n 1, 1) := dk_43 (dk_at dksX6_slides_6 19 rfl rfl)
theorem dX6_slides_159 : decode cX6_slides 159 = .ok (.sipush 273, 3) := dk_17 1 17 (dk_at dksX6_slides_6 20 rfl rfl)
theorem dX6_slides_162 : decode cX6_slides 162 = .ok (.dup2, 1) := dk_92 (dk_at dksX6_slides_6 23 rfl rfl)
theorem dX6_slides_163 : decode cX6_slides 163 = .ok (.iaload, 1) := dk_46 (dk_at dksX6_slides_7 0 rfl rfl)
theorem dX6_slides_164 : decode cX6_slides 164 = .ok (.iload_n 2, 1) := dk_28 (dk_at dksX6_slides_7 1 rfl rfl)
theorem dX6_slides_165 : decode cX6_slides 165 = .ok (.ifCond .eq 7, 3) := dk_153 0 7 (dk_at dksX6_slides_7 2 rfl rfl)
theorem dX6_slides_168 : decode cX6_slides 168 = .ok (.iconst 1, 1) := dk_4 (dk_at dksX6_slides_7 5 rfl rfl)
theorem dX6_slides_169 : decode cX6_slides 169 = .ok (.goto 4, 3) := dk_167 0 4 (dk_at dksX6_slides_7 6 rfl rfl)
theorem dX6_slides_172 : decode cX6_slides 172 = .ok (.iconst 0, 1) := dk_3 (dk_at dksX6_slides_7 9 rfl rfl)
theorem dX6_slides_173 : decode cX6_slides 173 = .ok (.iadd, 1) := dk_96 (dk_at dksX6_slides_7 10 rfl rfl)
theorem dX6_slides_174 : decode cX6_slides 174 = .ok (.iastore, 1) := dk_79 (dk_at dksX6_slides_7 11 rfl rfl)
theorem dX6_slides_175 : decode cX6_slides 175 = .ok (.iinc 3 1, 3) := dk_132 3 1 (dk_at dksX6_slides_7 12 rfl rfl)
theorem dX6_slides_178 : decode cX6_slides 178 = .ok (.goto (-162), 3) := dk_167 255 94 (dk_at dksX6_slides_7 15 rfl rfl)
theorem dX6_slides_181 : decode cX6_slides 181 = .ok (.aload_n 1, 1) := dk_43 (dk_at dksX6_slides_7 18 rfl rfl)
theorem dX6_slides_182 : decode cX6_slides 182 = .ok (.sipush 271, 3) := dk_17 1 15 (dk_at dksX6_slides_7 19 rfl rfl)
theorem dX6_slides_185 : decode cX6_slides 185 = .ok (.dup2, 1) := dk_92 (dk_at dksX6_slides_7 22 rfl rfl)
theorem dX6_slides_186 : decode cX6_slides 186 = .ok (.iaload, 1) := dk_46 (dk_at dksX6_slides_7 23 rfl rfl)
theorem dX6_slides_187 : decode cX6_slides 187 = .ok (.aload_n 1, 1) := dk_43 (dk_at dksX6_slides_8 0 rfl rfl)
theorem dX6_slides_188 : decode cX6_slides 188 = .ok (.sipush 272, 3) := dk_17 1 16 (dk_at dksX6_slides_8 1 rfl rfl)
theorem dX6_slides_191 : decode cX6_slides 191 = .ok (.iaload, 1) := dk_46 (dk_at dksX6_slides_8 4 rfl rfl)
theorem dX6_slides_192 : decode cX6_slides 192 = .ok (.iadd, 1) := dk_96 (dk_at dksX6_slides_8 5 rfl rfl)
theorem dX6_slides_193 : decode cX6_slides 193 = .ok (.iastore, 1) := dk_79 (dk_at dksX6_slides_8 6 rfl rfl)
theorem dX6_slides_194 : decode cX6_slides 194 = .ok (.return_, 1) := dk_177 (dk_at dksX6_slides_8 7 rfl rfl)
abbrev cX6_lowestBeside : ByteArray := prog_16_method_55_code
def yX6_lowestBeside : MethodName := ⟨RX6, "lowestBeside", "([II)I"⟩
def dkwX6_lowestBeside_6 : List UInt8 := [21, 6, 54, 4, 132, 5, 1, 167, 255, 120, 21, 4, 172]
abbrev dktX6_lowestBeside_6 : List UInt8 := dkwX6_lowestBeside_6 ++ []
def dkwX6_lowestBeside_5 : List UInt8 := [167, 0, 28, 21, 4, 2, 159, 0, 18, 43, 3, 21, 6, 96, 46, 43, 3, 21, 4, 96, 46, 162, 0, 7]
abbrev dktX6_lowestBeside_5 : List UInt8 := dkwX6_lowestBeside_5 ++ dktX6_lowestBeside_6
def dkwX6_lowestBeside_4 : List UInt8 := [42, 180, 0, 201, 42, 180, 0, 204, 104, 162, 0, 43, 43, 17, 0, 192, 21, 6, 96, 46, 4, 160, 0, 6]
abbrev dktX6_lowestBeside_4 : List UInt8 := dkwX6_lowestBeside_4 ++ dktX6_lowestBeside_5
def dkwX6_lowestBeside_3 : List UInt8 := [4, 96, 167, 0, 13, 2, 167, 0, 9, 28, 42, 180, 0, 201, 96, 54, 6, 21, 6, 155, 0, 57, 21, 6]
abbrev dktX6_lowestBeside_3 : List UInt8 := dkwX6_lowestBeside_3 ++ dktX6_lowestBeside_4
def dkwX6_lowestBeside_2 : List UInt8 := [167, 0, 39, 2, 167, 0, 35, 21, 5, 5, 160, 0, 23, 29, 4, 96, 42, 180, 0, 201, 162, 0, 9, 28]
abbrev dktX6_lowestBeside_2 : List UInt8 := dkwX6_lowestBeside_2 ++ dktX6_lowestBeside_3
def dkwX6_lowestBeside_1 : List UInt8 := [28, 42, 180, 0, 201, 100, 167, 0, 55, 21, 5, 4, 160, 0, 17, 29, 158, 0, 9, 28, 4, 100]
abbrev dktX6_lowestBeside_1 : List UInt8 := dkwX6_lowestBeside_1 ++ dktX6_lowestBeside_2
def dkwX6_lowestBeside_0 : List UInt8 := [28, 42, 180, 0, 201, 112, 62, 2, 54, 4, 3, 54, 5, 21, 5, 7, 162, 0, 136, 21, 5, 154, 0, 12]
abbrev dktX6_lowestBeside_0 : List UInt8 := dkwX6_lowestBeside_0 ++ dktX6_lowestBeside_1
theorem dksX6_lowestBeside_0 : cX6_lowestBeside.data.toList.drop 0 = dktX6_lowestBeside_0 := by decide +kernel
theorem dksX6_lowestBeside_1 : cX6_lowestBeside.data.toList.drop 24 = dktX6_lowestBeside_1 := dk_seg dksX6_lowestBeside_0 24 rfl rfl
theorem dksX6_lowestBeside_2 : cX6_lowestBeside.data.toList.drop 46 = dktX6_lowestBeside_2 := dk_seg dksX6_lowestBeside_1 22 rfl rfl
theorem dksX6_lowestBeside_3 : cX6_lowestBeside.data.toList.drop 70 = dktX6_lowestBeside_3 := dk_seg dksX6_lowestBeside_2 24 rfl rfl
theorem dksX6_lowestBeside_4 : cX6_lowestBeside.data.toList.drop 94 = dktX6_lowestBeside_4 := dk_seg dksX6_lowestBeside_3 24 rfl rfl
theorem dksX6_lowestBeside_5 : cX6_lowestBeside.data.toList.drop 118 = dktX6_lowestBeside_5 := dk_seg dksX6_lowestBeside_4 24 rfl rfl
theorem dksX6_lowestBeside_6 : cX6_lowestBeside.data.toList.drop 142 = dktX6_lowestBeside_6 := dk_seg dksX6_lowestBeside_5 24 rfl rfl
theorem dX6_lowestBeside_0 : decode cX6_lowestBeside 0 = .ok (.iload_n 2, 1) := dk_28 (dk_at dksX6_lowestBeside_0 0 rfl rfl)
theorem dX6_lowestBeside_1 : decode cX6_lowestBeside 1 = .ok (.aload_n 0, 1) := dk_42 (dk_at dksX6_lowestBeside_0 1 rfl rfl)
theorem dX6_lowestBeside_2 : decode cX6_lowestBeside 2 = .ok (.getfield 201, 3) := dk_180 0 201 (dk_at dksX6_lowestBeside_0 2 rfl rfl)
theorem dX6_lowestBeside_5 : decode cX6_lowestBeside 5 = .ok (.irem, 1) := dk_112 (dk_at dksX6_lowestBeside_0 5 rfl rfl)
theorem dX6_lowestBeside_6 : decode cX6_lowestBeside 6 = .ok (.istore_n 3, 1) := dk_62 (dk_at dksX6_lowestBeside_0 6 rfl rfl)
theorem dX6_lowestBeside_7 : decode cX6_lowestBeside 7 = .ok (.iconst (-1), 1) := dk_2 (dk_at dksX6_lowestBeside_0 7 rfl rfl)
theorem dX6_lowestBeside_8 : decode cX6_lowestBeside 8 = .ok (.istore 4, 2) := dk_54 4 (dk_at dksX6_lowestBeside_0 8 rfl rfl)
theorem dX6_lowestBeside_10 : decode cX6_lowestBeside 10 = .ok (.iconst 0, 1) := dk_3 (dk_at dksX6_lowestBeside_0 10 rfl rfl)
theorem dX6_lowestBeside_11 : decode cX6_lowestBeside 11 = .ok (.istore 5, 2) := dk_54 5 (dk_at dksX6_lowestBeside_0 11 rfl rfl)
theorem dX6_lowestBeside_13 : decode cX6_lowestBeside 13 = .ok (.iload 5, 2) := dk_21 5 (dk_at dksX6_lowestBeside_0 13 rfl rfl)
theorem dX6_lowestBeside_15 : decode cX6_lowestBeside 15 = .ok (.iconst 4, 1) := dk_7 (dk_at dksX6_lowestBeside_0 15 rfl rfl)
theorem dX6_lowestBeside_16 : decode cX6_lowestBeside 16 = .ok (.if_icmp .ge 136, 3) := dk_162 0 136 (dk_at dksX6_lowestBeside_0 16 rfl rfl)
theorem dX6_lowestBeside_19 : decode cX6_lowestBeside 19 = .ok (.iload 5, 2) := dk_21 5 (dk_at dksX6_lowestBeside_0 19 rfl rfl)
theorem dX6_lowestBeside_21 : decode cX6_lowestBeside 21 = .ok (.ifCond .ne 12, 3) := dk_154 0 12 (dk_at dksX6_lowestBeside_0 21 rfl rfl)
theorem dX6_lowestBeside_24 : decode cX6_lowestBeside 24 = .ok (.iload_n 2, 1) := dk_28 (dk_at dksX6_lowestBeside_1 0 rfl rfl)
theorem dX6_lowestBeside_25 : decode cX6_lowestBeside 25 = .ok (.aload_n 0, 1) := dk_42 (dk_at dksX6_lowestBeside_1 1 rfl rfl)
theorem dX6_lowestBeside_26 : decode cX6_lowestBeside 26 = .ok (.getfield 201, 3) := dk_180 0 201 (dk_at dksX6_lowestBeside_1 2 rfl rfl)
theorem dX6_lowestBeside_29 : decode cX6_lowestBeside 29 = .ok (.isub, 1) := dk_100 (dk_at dksX6_lowestBeside_1 5 rfl rfl)
theorem dX6_lowestBeside_30 : decode cX6_lowestBeside 30 = .ok (.goto 55, 3) := dk_167 0 55 (dk_at dksX6_lowestBeside_1 6 rfl rfl)
theorem dX6_lowestBeside_33 : decode cX6_lowestBeside 33 = .ok (.iload 5, 2) := dk_21 5 (dk_at dksX6_lowestBeside_1 9 rfl rfl)
theorem dX6_lowestBeside_35 : decode cX6_lowestBeside 35 = .ok (.iconst 1, 1) := dk_4 (dk_at dksX6_lowestBeside_1 11 rfl rfl)
theorem dX6_lowestBeside_36 : decode cX6_lowestBeside 36 = .ok (.if_icmp .ne 17, 3) := dk_160 0 17 (dk_at dksX6_lowestBeside_1 12 rfl rfl)
theorem dX6_lowestBeside_39 : decode cX6_lowestBeside 39 = .ok (.iload_n 3, 1) := dk_29 (dk_at dksX6_lowestBeside_1 15 rfl rfl)
theorem dX6_lowestBeside_40 : decode cX6_lowestBeside 40 = .ok (.ifCond .le 9, 3) := dk_158 0 9 (dk_at dksX6_lowestBeside_1 16 rfl rfl)
theorem dX6_lowestBeside_43 : decode cX6_lowestBeside 43 = .ok (.iload_n 2, 1) := dk_28 (dk_at dksX6_lowestBeside_1 19 rfl rfl)
theorem dX6_lowestBeside_44 : decode cX6_lowestBeside 44 = .ok (.iconst 1, 1) := dk_4 (dk_at dksX6_lowestBeside_1 20 rfl rfl)
theorem dX6_lowestBeside_45 : decode cX6_lowestBeside 45 = .ok (.isub, 1) := dk_100 (dk_at dksX6_lowestBeside_1 21 rfl rfl)
theorem dX6_lowestBeside_46 : decode cX6_lowestBeside 46 = .ok (.goto 39, 3) := dk_167 0 39 (dk_at dksX6_lowestBeside_2 0 rfl rfl)
theorem dX6_lowestBeside_49 : decode cX6_lowestBeside 49 = .ok (.iconst (-1), 1) := dk_2 (dk_at dksX6_lowestBeside_2 3 rfl rfl)
theorem dX6_lowestBeside_50 : decode cX6_lowestBeside 50 = .ok (.goto 35, 3) := dk_167 0 35 (dk_at dksX6_lowestBeside_2 4 rfl rfl)
theorem dX6_lowestBeside_53 : decode cX6_lowestBeside 53 = .ok (.iload 5, 2) := dk_21 5 (dk_at dksX6_lowestBeside_2 7 rfl rfl)
theorem dX6_lowestBeside_55 : decode cX6_lowestBeside 55 = .ok (.iconst 2, 1) := dk_5 (dk_at dksX6_lowestBeside_2 9 rfl rfl)
theorem dX6_lowestBeside_56 : decode cX6_lowestBeside 56 = .ok (.if_icmp .ne 23, 3) := dk_160 0 23 (dk_at dksX6_lowestBeside_2 10 rfl rfl)
theorem dX6_lowestBeside_59 : decode cX6_lowestBeside 59 = .ok (.iload_n 3, 1) := dk_29 (dk_at dksX6_lowestBeside_2 13 rfl rfl)
theorem dX6_lowestBeside_60 : decode cX6_lowestBeside 60 = .ok (.iconst 1, 1) := dk_4 (dk_at dksX6_lowestBeside_2 14 rfl rfl)
theorem dX6_lowestBeside_61 : decode cX6_lowestBeside 61 = .ok (.iadd, 1) := dk_96 (dk_at dksX6_lowestBeside_2 15 rfl rfl)
theorem dX6_lowestBeside_62 : decode cX6_lowestBeside 62 = .ok (.aload_n 0, 1) := dk_42 (dk_at dksX6_lowestBeside_2 16 rfl rfl)
theorem dX6_lowestBeside_63 : decode cX6_lowestBeside 63 = .ok (.getfield 201, 3) := dk_180 0 201 (dk_at dksX6_lowestBeside_2 17 rfl rfl)
theorem dX6_lowestBeside_66 : decode cX6_lowestBeside 66 = .ok (.if_icmp .ge 9, 3) := dk_162 0 9 (dk_at dksX6_lowestBeside_2 20 rfl rfl)
theorem dX6_lowestBeside_69 : decode cX6_lowestBeside 69 = .ok (.iload_n 2, 1) := dk_28 (dk_at dksX6_lowestBeside_2 23 rfl rfl)
theorem dX6_lowestBeside_70 : decode cX6_lowestBeside 70 = .ok (.iconst 1, 1) := dk_4 (dk_at dksX6_lowestBeside_3 0 rfl rfl)
theorem dX6_lowestBeside_71 : decode cX6_lowestBeside 71 = .ok (.iadd, 1) := dk_96 (dk_at dksX6_lowestBeside_3 1 rfl rfl)
theorem dX6_lowestBeside_72 : decode cX6_lowestBeside 72 = .ok (.goto 13, 3) := dk_167 0 13 (dk_at dksX6_lowestBeside_3 2 rfl rfl)
theorem dX6_lowestBeside_75 : decode cX6_lowestBeside 75 = .ok (.iconst (-1), 1) := dk_2 (dk_at dksX6_lowestBeside_3 5 rfl rfl)
theorem dX6_lowestBeside_76 : decode cX6_lowestBeside 76 = .ok (.goto 9, 3) := dk_167 0 9 (dk_at dksX6_lowestBeside_3 6 rfl rfl)
theorem dX6_lowestBeside_79 : decode cX6_lowestBeside 79 = .ok (.iload_n 2, 1) := dk_28 (dk_at dksX6_lowestBeside_3 9 rfl rfl)
theorem dX6_lowestBeside_80 : decode cX6_lowestBeside 80 = .ok (.aload_n 0, 1) := dk_42 (dk_at dksX6_lowestBeside_3 10 rfl rfl)
theorem dX6_lowestBeside_81 : decode cX6_lowestBeside 81 = .ok (.getfield 201, 3) := dk_180 0 201 (dk_at dksX6_lowestBeside_3 11 rfl rfl)
theorem dX6_lowestBeside_84 : decode cX6_lowestBeside 84 = .ok (.iadd, 1) := dk_96 (dk_at dksX6_lowestBeside_3 14 rfl rfl)
theorem dX6_lowestBeside_85 : decode cX6_lowestBeside 85 = .ok (.istore 6, 2) := dk_54 6 (dk_at dksX6_lowestBeside_3 15 rfl rfl)
theorem dX6_lowestBeside_87 : decode cX6_lowestBeside 87 = .ok (.iload 6, 2) := dk_21 6 (dk_at dksX6_lowestBeside_3 17 rfl rfl)
theorem dX6_lowestBeside_89 : decode cX6_lowestBeside 89 = .ok (.ifCond .lt 57, 3) := dk_155 0 57 (dk_at dksX6_lowestBeside_3 19 rfl rfl)
theorem dX6_lowestBeside_92 : decode cX6_lowestBeside 92 = .ok (.iload 6, 2) := dk_21 6 (dk_at dksX6_lowestBeside_3 22 rfl rfl)
theorem dX6_lowestBeside_94 : decode cX6_lowestBeside 94 = .ok (.aload_n 0, 1) := dk_42 (dk_at dksX6_lowestBeside_4 0 rfl rfl)
theorem dX6_lowestBeside_95 : decode cX6_lowestBeside 95 = .ok (.getfield 201, 3) := dk_180 0 201 (dk_at dksX6_lowestBeside_4 1 rfl rfl)
theorem dX6_lowestBeside_98 : decode cX6_lowestBeside 98 = .ok (.aload_n 0, 1) := dk_42 (dk_at dksX6_lowestBeside_4 4 rfl rfl)
theorem dX6_lowestBeside_99 : decode cX6_lowestBeside 99 = .ok (.getfield 204, 3) := dk_180 0 204 (dk_at dksX6_lowestBeside_4 5 rfl rfl)
theorem dX6_lowestBeside_102 : decode cX6_lowestBeside 102 = .ok (.imul, 1) := dk_104 (dk_at dksX6_lowestBeside_4 8 rfl rfl)
theorem dX6_lowestBeside_103 : decode cX6_lowestBeside 103 = .ok (.if_icmp .ge 43, 3) := dk_162 0 43 (dk_at dksX6_lowestBeside_4 9 rfl rfl)
theorem dX6_lowestBeside_106 : decode cX6_lowestBeside 106 = .ok (.aload_n 1, 1) := dk_43 (dk_at dksX6_lowestBeside_4 12 rfl rfl)
theorem dX6_lowestBeside_107 : decode cX6_lowestBeside 107 = .ok (.sipush 192, 3) := dk_17 0 192 (dk_at dksX6_lowestBeside_4 13 rfl rfl)
theorem dX6_lowestBeside_110 : decode cX6_lowestBeside 110 = .ok (.iload 6, 2) := dk_21 6 (dk_at dksX6_lowestBeside_4 16 rfl rfl)
theorem dX6_lowestBeside_112 : decode cX6_lowestBeside 112 = .ok (.iadd, 1) := dk_96 (dk_at dksX6_lowestBeside_4 18 rfl rfl)
theorem dX6_lowestBeside_113 : decode cX6_lowestBeside 113 = .ok (.iaload, 1) := dk_46 (dk_at dksX6_lowestBeside_4 19 rfl rfl)
theorem dX6_lowestBeside_114 : decode cX6_lowestBeside 114 = .ok (.iconst 1, 1) := dk_4 (dk_at dksX6_lowestBeside_4 20 rfl rfl)
theorem dX6_lowestBeside_115 : decode cX6_lowestBeside 115 = .ok (.if_icmp .ne 6, 3) := dk_160 0 6 (dk_at dksX6_lowestBeside_4 21 rfl rfl)
theorem dX6_lowestBeside_118 : decode cX6_lowestBeside 118 = .ok (.goto 28, 3) := dk_167 0 28 (dk_at dksX6_lowestBeside_5 0 rfl rfl)
theorem dX6_lowestBeside_121 : decode cX6_lowestBeside 121 = .ok (.iload 4, 2) := dk_21 4 (dk_at dksX6_lowestBeside_5 3 rfl rfl)
theorem dX6_lowestBeside_123 : decode cX6_lowestBeside 123 = .ok (.iconst (-1), 1) := dk_2 (dk_at dksX6_lowestBeside_5 5 rfl rfl)
theorem dX6_lowestBeside_124 : decode cX6_lowestBeside 124 = .ok (.if_icmp .eq 18, 3) := dk_159 0 18 (dk_at dksX6_lowestBeside_5 6 rfl rfl)
theorem dX6_lowestBeside_127 : decode cX6_lowestBeside 127 = .ok (.aload_n 1, 1) := dk_43 (dk_at dksX6_lowestBeside_5 9 rfl rfl)
theorem dX6_lowestBeside_128 : decode cX6_lowestBeside 128 = .ok (.iconst 0, 1) := dk_3 (dk_at dksX6_lowestBeside_5 10 rfl rfl)
theorem dX6_lowestBeside_129 : decode cX6_lowestBeside 129 = .ok (.iload 6, 2) := dk_21 6 (dk_at dksX6_lowestBeside_5 11 rfl rfl)
theorem dX6_lowestBeside_131 : decode cX6_lowestBeside 131 = .ok (.iadd, 1) := dk_96 (dk_at dksX6_lowestBeside_5 13 rfl rfl)
theorem dX6_lowestBeside_132 : decode cX6_lowestBeside 132 = .ok (.iaload, 1) := dk_46 (dk_at dksX6_lowestBeside_5 14 rfl rfl)
theorem dX6_lowestBeside_133 : decode cX6_lowestBeside 133 = .ok (.aload_n 1, 1) := dk_43 (dk_at dksX6_lowestBeside_5 15 rfl rfl)
theorem dX6_lowestBeside_134 : decode cX6_lowestBeside 134 = .ok (.iconst 0, 1) := dk_3 (dk_at dksX6_lowestBeside_5 16 rfl rfl)
theorem dX6_lowestBeside_135 : decode cX6_lowestBeside 135 = .ok (.iload 4, 2) := dk_21 4 (dk_at dksX6_lowestBeside_5 17 rfl rfl)
theorem dX6_lowestBeside_137 : decode cX6_lowestBeside 137 = .ok (.iadd, 1) := dk_96 (dk_at dksX6_lowestBeside_5 19 rfl rfl)
theorem dX6_lowestBeside_138 : decode cX6_lowestBeside 138 = .ok (.iaload, 1) := dk_46 (dk_at dksX6_lowestBeside_5 20 rfl rfl)
theorem dX6_lowestBeside_139 : decode cX6_lowestBeside 139 = .ok (.if_icmp .ge 7, 3) := dk_162 0 7 (dk_at dksX6_lowestBeside_5 21 rfl rfl)
theorem dX6_lowestBeside_142 : decode cX6_lowestBeside 142 = .ok (.iload 6, 2) := dk_21 6 (dk_at dksX6_lowestBeside_6 0 rfl rfl)
theorem dX6_lowestBeside_144 : decode cX6_lowestBeside 144 = .ok (.istore 4, 2) := dk_54 4 (dk_at dksX6_lowestBeside_6 2 rfl rfl)
theorem dX6_lowestBeside_146 : decode cX6_lowestBeside 146 = .ok (.iinc 5 1, 3) := dk_132 5 1 (dk_at dksX6_lowestBeside_6 4 rfl rfl)
theorem dX6_lowestBeside_149 : decode cX6_lowestBeside 149 = .ok (.goto (-136), 3) := dk_167 255 120 (dk_at dksX6_lowestBeside_6 7 rfl rfl)
theorem dX6_lowestBeside_152 : decode cX6_lowestBeside 152 = .ok (.iload 4, 2) := dk_21 4 (dk_at dksX6_lowestBeside_6 10 rfl rfl)
theorem dX6_lowestBeside_154 : decode cX6_lowestBeside 154 = .ok (.ireturn, 1) := dk_172 (dk_at dksX6_lowestBeside_6 12 rfl rfl)
abbrev cX6_holdsOf : ByteArray := prog_16_method_47_code
def yX6_holdsOf : MethodName := ⟨RX6, "holdsOf", "(II)I"⟩
def dkwX6_holdsOf_0 : List UInt8 := [4, 42, 27, 182, 1, 107, 96, 42, 180, 0, 245, 4, 46, 28, 104, 96, 172]
abbrev dktX6_holdsOf_0 : List UInt8 := dkwX6_holdsOf_0 ++ []
theorem dksX6_holdsOf_0 : cX6_holdsOf.data.toList.drop 0 = dktX6_holdsOf_0 := by decide +kernel
theorem dX6_holdsOf_0 : decode cX6_holdsOf 0 = .ok (.iconst 1, 1) := dk_4 (dk_at dksX6_holdsOf_0 0 rfl rfl)
theorem dX6_holdsOf_1 : decode cX6_holdsOf 1 = .ok (.aload_n 0, 1) := dk_42 (dk_at dksX6_holdsOf_0 1 rfl rfl)
theorem dX6_holdsOf_2 : decode cX6_holdsOf 2 = .ok (.iload_n 1, 1) := dk_27 (dk_at dksX6_holdsOf_0 2 rfl rfl)
theorem dX6_holdsOf_3 : decode cX6_holdsOf 3 = .ok (.invokevirtual 363, 3) := dk_182 1 107 (dk_at dksX6_holdsOf_0 3 rfl rfl)
theorem dX6_holdsOf_6 : decode cX6_holdsOf 6 = .ok (.iadd, 1) := dk_96 (dk_at dksX6_holdsOf_0 6 rfl rfl)
theorem dX6_holdsOf_7 : decode cX6_holdsOf 7 = .ok (.aload_n 0, 1) := dk_42 (dk_at dksX6_holdsOf_0 7 rfl rfl)
theorem dX6_holdsOf_8 : decode cX6_holdsOf 8 = .ok (.getfield 245, 3) := dk_180 0 245 (dk_at dksX6_holdsOf_0 8 rfl rfl)
theorem dX6_holdsOf_11 : decode cX6_holdsOf 11 = .ok (.iconst 1, 1) := dk_4 (dk_at dksX6_holdsOf_0 11 rfl rfl)
theorem dX6_holdsOf_12 : decode cX6_holdsOf 12 = .ok (.iaload, 1) := dk_46 (dk_at dksX6_holdsOf_0 12 rfl rfl)
theorem dX6_holdsOf_13 : decode cX6_holdsOf 13 = .ok (.iload_n 2, 1) := dk_28 (dk_at dksX6_holdsOf_0 13 rfl rfl)
theorem dX6_holdsOf_14 : decode cX6_holdsOf 14 = .ok (.imul, 1) := dk_104 (dk_at dksX6_holdsOf_0 14 rfl rfl)
theorem dX6_holdsOf_15 : decode cX6_holdsOf 15 = .ok (.iadd, 1) := dk_96 (dk_at dksX6_holdsOf_0 15 rfl rfl)
theorem dX6_holdsOf_16 : decode cX6_holdsOf 16 = .ok (.ireturn, 1) := dk_172 (dk_at dksX6_holdsOf_0 16 rfl rfl)
abbrev cX6_strength : ByteArray := prog_16_method_46_code
def yX6_strength : MethodName := ⟨RX6, "strength", "(I)I"⟩
def dkwX6_strength_1 : List UInt8 := [180, 0, 245, 16, 8, 46, 27, 42, 180, 0, 245, 16, 6, 46, 100, 184, 1, 98, 104, 100, 184, 1, 103, 172]
abbrev dktX6_strength_1 : List UInt8 := dkwX6_strength_1 ++ []
def dkwX6_strength_0 : List UInt8 := [27, 153, 0, 9, 27, 16, 16, 160, 0, 7, 3, 167, 0, 35, 3, 42, 180, 0, 245, 16, 7, 46, 42]
abbrev dktX6_strength_0 : List UInt8 := dkwX6_strength_0 ++ dktX6_strength_1
theorem dksX6_strength_0 : cX6_strength.data.toList.drop 0 = dktX6_strength_0 := by decide +kernel
theorem dksX6_strength_1 : cX6_strength.data.toList.drop 23 = dktX6_strength_1 := dk_seg dksX6_strength_0 23 rfl rfl
theorem dX6_strength_0 : decode cX6_strength 0 = .ok (.iload_n 1, 1) := dk_27 (dk_at dksX6_strength_0 0 rfl rfl)
theorem dX6_strength_1 : decode cX6_strength 1 = .ok (.ifCond .eq 9, 3) := dk_153 0 9 (dk_at dksX6_strength_0 1 rfl rfl)
theorem dX6_strength_4 : decode cX6_strength 4 = .ok (.iload_n 1, 1) := dk_27 (dk_at dksX6_strength_0 4 rfl rfl)
theorem dX6_strength_5 : decode cX6_strength 5 = .ok (.bipush 16, 2) := dk_16 16 (dk_at dksX6_strength_0 5 rfl rfl)
theorem dX6_strength_7 : decode cX6_strength 7 = .ok (.if_icmp .ne 7, 3) := dk_160 0 7 (dk_at dksX6_strength_0 7 rfl rfl)
theorem dX6_strength_10 : decode cX6_strength 10 = .ok (.iconst 0, 1) := dk_3 (dk_at dksX6_strength_0 10 rfl rfl)
theorem dX6_strength_11 : decode cX6_strength 11 = .ok (.goto 35, 3) := dk_167 0 35 (dk_at dksX6_strength_0 11 rfl rfl)
theorem dX6_strength_14 : decode cX6_strength 14 = .ok (.iconst 0, 1) := dk_3 (dk_at dksX6_strength_0 14 rfl rfl)
theorem dX6_strength_15 : decode cX6_strength 15 = .ok (.aload_n 0, 1) := dk_42 (dk_at dksX6_strength_0 15 rfl rfl)
theorem dX6_strength_16 : decode cX6_strength 16 = .ok (.getfield 245, 3) := dk_180 0 245 (dk_at dksX6_strength_0 16 rfl rfl)
theorem dX6_strength_19 : decode cX6_strength 19 = .ok (.bipush 7, 2) := dk_16 7 (dk_at dksX6_strength_0 19 rfl rfl)
theorem dX6_strength_21 : decode cX6_strength 21 = .ok (.iaload, 1) := dk_46 (dk_at dksX6_strength_0 21 rfl rfl)
theorem dX6_strength_22 : decode cX6_strength 22 = .ok (.aload_n 0, 1) := dk_42 (dk_at dksX6_strength_0 22 rfl rfl)
theorem dX6_strength_23 : decode cX6_strength 23 = .ok (.getfield 245, 3) := dk_180 0 245 (dk_at dksX6_strength_1 0 rfl rfl)
theorem dX6_strength_26 : decode cX6_strength 26 = .ok (.bipush 8, 2) := dk_16 8 (dk_at dksX6_strength_1 3 rfl rfl)
theorem dX6_strength_28 : decode cX6_strength 28 = .ok (.iaload, 1) := dk_46 (dk_at dksX6_strength_1 5 rfl rfl)
theorem dX6_strength_29 : decode cX6_strength 29 = .ok (.iload_n 1, 1) := dk_27 (dk_at dksX6_strength_1 6 rfl rfl)
theorem dX6_strength_30 : decode cX6_strength 30 = .ok (.aload_n 0, 1) := dk_42 (dk_at dksX6_strength_1 7 rfl rfl)
theorem dX6_strength_31 : decode cX6_strength 31 = .ok (.getfield 245, 3) := dk_180 0 245 (dk_at dksX6_strength_1 8 rfl rfl)
theorem dX6_strength_34 : decode cX6_strength 34 = .ok (.bipush 6, 2) := dk_16 6 (dk_at dksX6_strength_1 11 rfl rfl)
theorem dX6_strength_36 : decode cX6_strength 36 = .ok (.iaload, 1) := dk_46 (dk_at dksX6_strength_1 13 rfl rfl)
theorem dX6_strength_37 : decode cX6_strength 37 = .ok (.isub, 1) := dk_100 (dk_at dksX6_strength_1 14 rfl rfl)
theorem dX6_strength_38 : decode cX6_strength 38 = .ok (.invokestatic 354, 3) := dk_184 1 98 (dk_at dksX6_strength_1 15 rfl rfl)
theorem dX6_strength_41 : decode cX6_strength 41 = .ok (.imul, 1) := dk_104 (dk_at dksX6_strength_1 18 rfl rfl)
theorem dX6_strength_42 : decode cX6_strength 42 = .ok (.isub, 1) := dk_100 (dk_at dksX6_strength_1 19 rfl rfl)
theorem dX6_strength_43 : decode cX6_strength 43 = .ok (.invokestatic 359, 3) := dk_184 1 103 (dk_at dksX6_strength_1 20 rfl rfl)
theorem dX6_strength_46 : decode cX6_strength 46 = .ok (.ireturn, 1) := dk_172 (dk_at dksX6_strength_1 23 rfl rfl)
abbrev cX6_flagsFall : ByteArray := prog_16_method_57_code
def yX6_flagsFall : MethodName := ⟨RX6, "flagsFall", "([I)V"⟩
def dkwX6_flagsFall_2 : List UInt8 := [162, 0, 15, 43, 17, 1, 8, 28, 96, 43, 17, 1, 14, 46, 79, 132, 2, 1, 167, 255, 193, 177]
abbrev dktX6_flagsFall_2 : List UInt8 := dkwX6_flagsFall_2 ++ []
def dkwX6_flagsFall_1 : List UInt8 := [43, 17, 1, 0, 28, 96, 46, 96, 46, 43, 17, 1, 4, 28, 96, 46, 42, 180, 0, 245, 7, 46, 100]
abbrev dktX6_flagsFall_1 : List UInt8 := dkwX6_flagsFall_1 ++ dktX6_flagsFall_2
def dkwX6_flagsFall_0 : List UInt8 := [3, 61, 28, 43, 17, 1, 12, 46, 162, 0, 60, 43, 17, 1, 8, 28, 96, 46, 2, 160, 0, 43, 43, 3]
abbrev dktX6_flagsFall_0 : List UInt8 := dkwX6_flagsFall_0 ++ dktX6_flagsFall_1
theorem dksX6_flagsFall_0 : cX6_flagsFall.data.toList.drop 0 = dktX6_flagsFall_0 := by decide +kernel
theorem dksX6_flagsFall_1 : cX6_flagsFall.data.toList.drop 24 = dktX6_flagsFall_1 := dk_seg dksX6_flagsFall_0 24 rfl rfl
theorem dksX6_flagsFall_2 : cX6_flagsFall.data.toList.drop 47 = dktX6_flagsFall_2 := dk_seg dksX6_flagsFall_1 23 rfl rfl
theorem dX6_flagsFall_0 : decode cX6_flagsFall 0 = .ok (.iconst 0, 1) := dk_3 (dk_at dksX6_flagsFall_0 0 rfl rfl)
theorem dX6_flagsFall_1 : decode cX6_flagsFall 1 = .ok (.istore_n 2, 1) := dk_61 (dk_at dksX6_flagsFall_0 1 rfl rfl)
theorem dX6_flagsFall_2 : decode cX6_flagsFall 2 = .ok (.iload_n 2, 1) := dk_28 (dk_at dksX6_flagsFall_0 2 rfl rfl)
theorem dX6_flagsFall_3 : decode cX6_flagsFall 3 = .ok (.aload_n 1, 1) := dk_43 (dk_at dksX6_flagsFall_0 3 rfl rfl)
theorem dX6_flagsFall_4 : decode cX6_flagsFall 4 = .ok (.sipush 268, 3) := dk_17 1 12 (dk_at dksX6_flagsFall_0 4 rfl rfl)
theorem dX6_flagsFall_7 : decode cX6_flagsFall 7 = .ok (.iaload, 1) := dk_46 (dk_at dksX6_flagsFall_0 7 rfl rfl)
theorem dX6_flagsFall_8 : decode cX6_flagsFall 8 = .ok (.if_icmp .ge 60, 3) := dk_162 0 60 (dk_at dksX6_flagsFall_0 8 rfl rfl)
theorem dX6_flagsFall_11 : decode cX6_flagsFall 11 = .ok (.aload_n 1, 1) := dk_43 (dk_at dksX6_flagsFall_0 11 rfl rfl)
theorem dX6_flagsFall_12 : decode cX6_flagsFall 12 = .ok (.sipush 264, 3) := dk_17 1 8 (dk_at dksX6_flagsFall_0 12 rfl rfl)
theorem dX6_flagsFall_15 : decode cX6_flagsFall 15 = .ok (.iload_n 2, 1) := dk_28 (dk_at dksX6_flagsFall_0 15 rfl rfl)
theorem dX6_flagsFall_16 : decode cX6_flagsFall 16 = .ok (.iadd, 1) := dk_96 (dk_at dksX6_flagsFall_0 16 rfl rfl)
theorem dX6_flagsFall_17 : decode cX6_flagsFall 17 = .ok (.iaload, 1) := dk_46 (dk_at dksX6_flagsFall_0 17 rfl rfl)
theorem dX6_flagsFall_18 : decode cX6_flagsFall 18 = .ok (.iconst (-1), 1) := dk_2 (dk_at dksX6_flagsFall_0 18 rfl rfl)
theorem dX6_flagsFall_19 : decode cX6_flagsFall 19 = .ok (.if_icmp .ne 43, 3) := dk_160 0 43 (dk_at dksX6_flagsFall_0 19 rfl rfl)
theorem dX6_flagsFall_22 : decode cX6_flagsFall 22 = .ok (.aload_n 1, 1) := dk_43 (dk_at dksX6_flagsFall_0 22 rfl rfl)
theorem dX6_flagsFall_23 : decode cX6_flagsFall 23 = .ok (.iconst 0, 1) := dk_3 (dk_at dksX6_flagsFall_0 23 rfl rfl)
theorem dX6_flagsFall_24 : decode cX6_flagsFall 24 = .ok (.aload_n 1, 1) := dk_43 (dk_at dksX6_flagsFall_1 0 rfl rfl)
theorem dX6_flagsFall_25 : decode cX6_flagsFall 25 = .ok (.sipush 256, 3) := dk_17 1 0 (dk_at dksX6_flagsFall_1 1 rfl rfl)
theorem dX6_flagsFall_28 : decode cX6_flagsFall 28 = .ok (.iload_n 2, 1) := dk_28 (dk_at dksX6_flagsFall_1 4 rfl rfl)
theorem dX6_flagsFall_29 : decode cX6_flagsFall 29 = .ok (.iadd, 1) := dk_96 (dk_at dksX6_flagsFall_1 5 rfl rfl)
theorem dX6_flagsFall_30 : decode cX6_flagsFall 30 = .ok (.iaload, 1) := dk_46 (dk_at dksX6_flagsFall_1 6 rfl rfl)
theorem dX6_flagsFall_31 : decode cX6_flagsFall 31 = .ok (.iadd, 1) := dk_96 (dk_at dksX6_flagsFall_1 7 rfl rfl)
theorem dX6_flagsFall_32 : decode cX6_flagsFall 32 = .ok (.iaload, 1) := dk_46 (dk_at dksX6_flagsFall_1 8 rfl rfl)
theorem dX6_flagsFall_33 : decode cX6_flagsFall 33 = .ok (.aload_n 1, 1) := dk_43 (dk_at dksX6_flagsFall_1 9 rfl rfl)
theorem dX6_flagsFall_34 : decode cX6_flagsFall 34 = .ok (.sipush 260, 3) := dk_17 1 4 (dk_at dksX6_flagsFall_1 10 rfl rfl)
theorem dX6_flagsFall_37 : decode cX6_flagsFall 37 = .ok (.iload_n 2, 1) := dk_28 (dk_at dksX6_flagsFall_1 13 rfl rfl)
theorem dX6_flagsFall_38 : decode cX6_flagsFall 38 = .ok (.iadd, 1) := dk_96 (dk_at dksX6_flagsFall_1 14 rfl rfl)
theorem dX6_flagsFall_39 : decode cX6_flagsFall 39 = .ok (.iaload, 1) := dk_46 (dk_at dksX6_flagsFall_1 15 rfl rfl)
theorem dX6_flagsFall_40 : decode cX6_flagsFall 40 = .ok (.aload_n 0, 1) := dk_42 (dk_at dksX6_flagsFall_1 16 rfl rfl)
theorem dX6_flagsFall_41 : decode cX6_flagsFall 41 = .ok (.getfield 245, 3) := dk_180 0 245 (dk_at dksX6_flagsFall_1 17 rfl rfl)
theorem dX6_flagsFall_44 : decode cX6_flagsFall 44 = .ok (.iconst 4, 1) := dk_7 (dk_at dksX6_flagsFall_1 20 rfl rfl)
theorem dX6_flagsFall_45 : decode cX6_flagsFall 45 = .ok (.iaload, 1) := dk_46 (dk_at dksX6_flagsFall_1 21 rfl rfl)
theorem dX6_flagsFall_46 : decode cX6_flagsFall 46 = .ok (.isub, 1) := dk_100 (dk_at dksX6_flagsFall_1 22 rfl rfl)
theorem dX6_flagsFall_47 : decode cX6_flagsFall 47 = .ok (.if_icmp .ge 15, 3) := dk_162 0 15 (dk_at dksX6_flagsFall_2 0 rfl rfl)
theorem dX6_flagsFall_50 : decode cX6_flagsFall 50 = .ok (.aload_n 1, 1) := dk_43 (dk_at dksX6_flagsFall_2 3 rfl rfl)
theorem dX6_flagsFall_51 : decode cX6_flagsFall 51 = .ok (.sipush 264, 3) := dk_17 1 8 (dk_at dksX6_flagsFall_2 4 rfl rfl)
theorem dX6_flagsFall_54 : decode cX6_flagsFall 54 = .ok (.iload_n 2, 1) := dk_28 (dk_at dksX6_flagsFall_2 7 rfl rfl)
theorem dX6_flagsFall_55 : decode cX6_flagsFall 55 = .ok (.iadd, 1) := dk_96 (dk_at dksX6_flagsFall_2 8 rfl rfl)
theorem dX6_flagsFall_56 : decode cX6_flagsFall 56 = .ok (.aload_n 1, 1) := dk_43 (dk_at dksX6_flagsFall_2 9 rfl rfl)
theorem dX6_flagsFall_57 : decode cX6_flagsFall 57 = .ok (.sipush 270, 3) := dk_17 1 14 (dk_at dksX6_flagsFall_2 10 rfl rfl)
theorem dX6_flagsFall_60 : decode cX6_flagsFall 60 = .ok (.iaload, 1) := dk_46 (dk_at dksX6_flagsFall_2 13 rfl rfl)
theorem dX6_flagsFall_61 : decode cX6_flagsFall 61 = .ok (.iastore, 1) := dk_79 (dk_at dksX6_flagsFall_2 14 rfl rfl)
theorem dX6_flagsFall_62 : decode cX6_flagsFall 62 = .ok (.iinc 2 1, 3) := dk_132 2 1 (dk_at dksX6_flagsFall_2 15 rfl rfl)
theorem dX6_flagsFall_65 : decode cX6_flagsFall 65 = .ok (.goto (-63), 3) := dk_167 255 193 (dk_at dksX6_flagsFall_2 18 rfl rfl)
theorem dX6_flagsFall_68 : decode cX6_flagsFall 68 = .ok (.return_, 1) := dk_177 (dk_at dksX6_flagsFall_2 21 rfl rfl)
abbrev cX6_cell : ByteArray := prog_16_method_64_code
def yX6_cell : MethodName := ⟨RX6, "cell", "(III)I"⟩
def dkwX6_cell_7 : List UInt8 := [172]
abbrev dktX6_cell_7 : List UInt8 := dkwX6_cell_7 ++ []
def dkwX6_cell_6 : List UInt8 := [42, 180, 1, 13, 16, 64, 21, 4, 96, 46, 42, 180, 1, 13, 17, 0, 128, 21, 4, 96, 46, 182, 1, 139]
abbrev dktX6_cell_6 : List UInt8 := dkwX6_cell_6 ++ dktX6_cell_7
def dkwX6_cell_5 : List UInt8 := [180, 1, 13, 17, 0, 128, 21, 4, 96, 46, 172, 42, 180, 1, 13, 17, 0, 192, 21, 4, 96, 46, 172, 42]
abbrev dktX6_cell_5 : List UInt8 := dkwX6_cell_5 ++ dktX6_cell_6
def dkwX6_cell_4 : List UInt8 := [42, 180, 1, 13, 3, 21, 4, 96, 46, 172, 42, 180, 1, 13, 16, 64, 21, 4, 96, 46, 172, 42]
abbrev dktX6_cell_4 : List UInt8 := dkwX6_cell_4 ++ dktX6_cell_5
def dkwX6_cell_3 : List UInt8 := [170, 0, 0, 0, 0, 75, 0, 0, 0, 0, 0, 0, 0, 3, 0, 0, 0, 30, 0, 0, 0, 40, 0, 0, 0, 51, 0, 0, 0, 63]
abbrev dktX6_cell_3 : List UInt8 := dkwX6_cell_3 ++ dktX6_cell_4
def dkwX6_cell_2 : List UInt8 := [180, 0, 201, 28, 104, 27, 96, 54, 4, 29]
abbrev dktX6_cell_2 : List UInt8 := dkwX6_cell_2 ++ dktX6_cell_3
def dkwX6_cell_1 : List UInt8 := [10, 101, 184, 0, 52, 153, 0, 15, 29, 133, 9, 20, 1, 169, 184, 0, 52, 154, 0, 6, 16, 254, 172, 42]
abbrev dktX6_cell_1 : List UInt8 := dkwX6_cell_1 ++ dktX6_cell_2
def dkwX6_cell_0 : List UInt8 := [27, 133, 9, 42, 180, 0, 201, 133, 10, 101, 184, 0, 52, 153, 0, 31, 28, 133, 9, 42, 180, 0, 204, 133]
abbrev dktX6_cell_0 : List UInt8 := dkwX6_cell_0 ++ dktX6_cell_1
theorem dksX6_cell_0 : cX6_cell.data.toList.drop 0 = dktX6_cell_0 := by decide +kernel
theorem dksX6_cell_1 : cX6_cell.data.toList.drop 24 = dktX6_cell_1 := dk_seg dksX6_cell_0 24 rfl rfl
theorem dksX6_cell_2 : cX6_cell.data.toList.drop 48 = dktX6_cell_2 := dk_seg dksX6_cell_1 24 rfl rfl
theorem dksX6_cell_3 : cX6_cell.data.toList.drop 58 = dktX6_cell_3 := dk_seg dksX6_cell_2 10 rfl rfl
theorem dksX6_cell_4 : cX6_cell.data.toList.drop 88 = dktX6_cell_4 := dk_seg dksX6_cell_3 30 rfl rfl
theorem dksX6_cell_5 : cX6_cell.data.toList.drop 110 = dktX6_cell_5 := dk_seg dksX6_cell_4 22 rfl rfl
theorem dksX6_cell_6 : cX6_cell.data.toList.drop 134 = dktX6_cell_6 := dk_seg dksX6_cell_5 24 rfl rfl
theorem dksX6_cell_7 : cX6_cell.data.toList.drop 158 = dktX6_cell_7 := dk_seg dksX6_cell_6 24 rfl rfl
theorem dX6_cell_0 : decode cX6_cell 0 = .ok (.iload_n 1, 1) := dk_27 (dk_at dksX6_cell_0 0 rfl rfl)
theorem dX6_cell_1 : decode cX6_cell 1 = .ok (.i2l, 1) := dk_133 (dk_at dksX6_cell_0 1 rfl rfl)
theorem dX6_cell_2 : decode cX6_cell 2 = .ok (.lconst 0, 1) := dk_9 (dk_at dksX6_cell_0 2 rfl rfl)
theorem dX6_cell_3 : decode cX6_cell 3 = .ok (.aload_n 0, 1) := dk_42 (dk_at dksX6_cell_0 3 rfl rfl)
theorem dX6_cell_4 : decode cX6_cell 4 = .ok (.getfield 201, 3) := dk_180 0 201 (dk_at dksX6_cell_0 4 rfl rfl)
theorem dX6_cell_7 : decode cX6_cell 7 = .ok (.i2l, 1) := dk_133 (dk_at dksX6_cell_0 7 rfl rfl)
theorem dX6_cell_8 : decode cX6_cell 8 = .ok (.lconst 1, 1) := dk_10 (dk_at dksX6_cell_0 8 rfl rfl)
theorem dX6_cell_9 : decode cX6_cell 9 = .ok (.lsub, 1) := dk_101 (dk_at dksX6_cell_0 9 rfl rfl)
theorem dX6_cell_10 : decode cX6_cell 10 = .ok (.invokestatic 52, 3) := dk_184 0 52 (dk_at dksX6_cell_0 10 rfl rfl)
theorem dX6_cell_13 : decode cX6_cell 13 = .ok (.ifCond .eq 31, 3) := dk_153 0 31 (dk_at dksX6_cell_0 13 rfl rfl)
theorem dX6_cell_16 : decode cX6_cell 16 = .ok (.iload_n 2, 1) := dk_28 (dk_at dksX6_cell_0 16 rfl rfl)
theorem dX6_cell_17 : decode cX6_cell 17 = .ok (.i2l, 1) := dk_133 (dk_at dksX6_cell_0 17 rfl rfl)
theorem dX6_cell_18 : decode cX6_cell 18 = .ok (.lconst 0, 1) := dk_9 (dk_at dksX6_cell_0 18 rfl rfl)
theorem dX6_cell_19 : decode cX6_cell 19 = .ok (.aload_n 0, 1) := dk_42 (dk_at dksX6_cell_0 19 rfl rfl)
theorem dX6_cell_20 : decode cX6_cell 20 = .ok (.getfield 204, 3) := dk_180 0 204 (dk_at dksX6_cell_0 20 rfl rfl)
theorem dX6_cell_23 : decode cX6_cell 23 = .ok (.i2l, 1) := dk_133 (dk_at dksX6_cell_0 23 rfl rfl)
theorem dX6_cell_24 : decode cX6_cell 24 = .ok (.lconst 1, 1) := dk_10 (dk_at dksX6_cell_1 0 rfl rfl)
theorem dX6_cell_25 : decode cX6_cell 25 = .ok (.lsub, 1) := dk_101 (dk_at dksX6_cell_1 1 rfl rfl)
theorem dX6_cell_26 : decode cX6_cell 26 = .ok (.invokestatic 52, 3) := dk_184 0 52 (dk_at dksX6_cell_1 2 rfl rfl)
theorem dX6_cell_29 : decode cX6_cell 29 = .ok (.ifCond .eq 15, 3) := dk_153 0 15 (dk_at dksX6_cell_1 5 rfl rfl)
theorem dX6_cell_32 : decode cX6_cell 32 = .ok (.iload_n 3, 1) := dk_29 (dk_at dksX6_cell_1 8 rfl rfl)
theorem dX6_cell_33 : decode cX6_cell 33 = .ok (.i2l, 1) := dk_133 (dk_at dksX6_cell_1 9 rfl rfl)
theorem dX6_cell_34 : decode cX6_cell 34 = .ok (.lconst 0, 1) := dk_9 (dk_at dksX6_cell_1 10 rfl rfl)
theorem dX6_cell_35 : decode cX6_cell 35 = .ok (.ldc2_w 425, 3) := dk_20 1 169 (dk_at dksX6_cell_1 11 rfl rfl)
theorem dX6_cell_38 : decode cX6_cell 38 = .ok (.invokestatic 52, 3) := dk_184 0 52 (dk_at dksX6_cell_1 14 rfl rfl)
theorem dX6_cell_41 : decode cX6_cell 41 = .ok (.ifCond .ne 6, 3) := dk_154 0 6 (dk_at dksX6_cell_1 17 rfl rfl)
theorem dX6_cell_44 : decode cX6_cell 44 = .ok (.bipush (-2), 2) := dk_16 254 (dk_at dksX6_cell_1 20 rfl rfl)
theorem dX6_cell_46 : decode cX6_cell 46 = .ok (.ireturn, 1) := dk_172 (dk_at dksX6_cell_1 22 rfl rfl)
theorem dX6_cell_47 : decode cX6_cell 47 = .ok (.aload_n 0, 1) := dk_42 (dk_at dksX6_cell_1 23 rfl rfl)
theorem dX6_cell_48 : decode cX6_cell 48 = .ok (.getfield 201, 3) := dk_180 0 201 (dk_at dksX6_cell_2 0 rfl rfl)
theorem dX6_cell_51 : decode cX6_cell 51 = .ok (.iload_n 2, 1) := dk_28 (dk_at dksX6_cell_2 3 rfl rfl)
theorem dX6_cell_52 : decode cX6_cell 52 = .ok (.imul, 1) := dk_104 (dk_at dksX6_cell_2 4 rfl rfl)
theorem dX6_cell_53 : decode cX6_cell 53 = .ok (.iload_n 1, 1) := dk_27 (dk_at dksX6_cell_2 5 rfl rfl)
theorem dX6_cell_54 : decode cX6_cell 54 = .ok (.iadd, 1) := dk_96 (dk_at dksX6_cell_2 6 rfl rfl)
theorem dX6_cell_55 : decode cX6_cell 55 = .ok (.istore 4, 2) := dk_54 4 (dk_at dksX6_cell_2 7 rfl rfl)
theorem dX6_cell_57 : decode cX6_cell 57 = .ok (.iload_n 3, 1) := dk_29 (dk_at dksX6_cell_2 9 rfl rfl)
theorem dX6_cell_58 : decode cX6_cell 58 = .ok (.tableswitch 75 0 3 #[30, 40, 51, 63], 30) := by decide +kernel
theorem dX6_cell_88 : decode cX6_cell 88 = .ok (.aload_n 0, 1) := dk_42 (dk_at dksX6_cell_4 0 rfl rfl)
theorem dX6_cell_89 : decode cX6_cell 89 = .ok (.getfield 269, 3) := dk_180 1 13 (dk_at dksX6_cell_4 1 rfl rfl)
theorem dX6_cell_92 : decode cX6_cell 92 = .ok (.iconst 0, 1) := dk_3 (dk_at dksX6_cell_4 4 rfl rfl)
theorem dX6_cell_93 : decode cX6_cell 93 = .ok (.iload 4, 2) := dk_21 4 (dk_at dksX6_cell_4 5 rfl rfl)
theorem dX6_cell_95 : decode cX6_cell 95 = .ok (.iadd, 1) := dk_96 (dk_at dksX6_cell_4 7 rfl rfl)
theorem dX6_cell_96 : decode cX6_cell 96 = .ok (.iaload, 1) := dk_46 (dk_at dksX6_cell_4 8 rfl rfl)
theorem dX6_cell_97 : decode cX6_cell 97 = .ok (.ireturn, 1) := dk_172 (dk_at dksX6_cell_4 9 rfl rfl)
theorem dX6_cell_98 : decode cX6_cell 98 = .ok (.aload_n 0, 1) := dk_42 (dk_at dksX6_cell_4 10 rfl rfl)
theorem dX6_cell_99 : decode cX6_cell 99 = .ok (.getfield 269, 3) := dk_180 1 13 (dk_at dksX6_cell_4 11 rfl rfl)
theorem dX6_cell_102 : decode cX6_cell 102 = .ok (.bipush 64, 2) := dk_16 64 (dk_at dksX6_cell_4 14 rfl rfl)
theorem dX6_cell_104 : decode cX6_cell 104 = .ok (.iload 4, 2) := dk_21 4 (dk_at dksX6_cell_4 16 rfl rfl)
theorem dX6_cell_106 : decode cX6_cell 106 = .ok (.iadd, 1) := dk_96 (dk_at dksX6_cell_4 18 rfl rfl)
theorem dX6_cell_107 : decode cX6_cell 107 = .ok (.iaload, 1) := dk_46 (dk_at dksX6_cell_4 19 rfl rfl)
theorem dX6_cell_108 : decode cX6_cell 108 = .ok (.ireturn, 1) := dk_172 (dk_at dksX6_cell_4 20 rfl rfl)
theorem dX6_cell_109 : decode cX6_cell 109 = .ok (.aload_n 0, 1) := dk_42 (dk_at dksX6_cell_4 21 rfl rfl)
theorem dX6_cell_110 : decode cX6_cell 110 = .ok (.getfield 269, 3) := dk_180 1 13 (dk_at dksX6_cell_5 0 rfl rfl)
theorem dX6_cell_113 : decode cX6_cell 113 = .ok (.sipush 128, 3) := dk_17 0 128 (dk_at dksX6_cell_5 3 rfl rfl)
theorem dX6_cell_116 : decode cX6_cell 116 = .ok (.iload 4, 2) := dk_21 4 (dk_at dksX6_cell_5 6 rfl rfl)
theorem dX6_cell_118 : decode cX6_cell 118 = .ok (.iadd, 1) := dk_96 (dk_at dksX6_cell_5 8 rfl rfl)
theorem dX6_cell_119 : decode cX6_cell 119 = .ok (.iaload, 1) := dk_46 (dk_at dksX6_cell_5 9 rfl rfl)
theorem dX6_cell_120 : decode cX6_cell 120 = .ok (.ireturn, 1) := dk_172 (dk_at dksX6_cell_5 10 rfl rfl)
theorem dX6_cell_121 : decode cX6_cell 121 = .ok (.aload_n 0, 1) := dk_42 (dk_at dksX6_cell_5 11 rfl rfl)
theorem dX6_cell_122 : decode cX6_cell 122 = .ok (.getfield 269, 3) := dk_180 1 13 (dk_at dksX6_cell_5 12 rfl rfl)
theorem dX6_cell_125 : decode cX6_cell 125 = .ok (.sipush 192, 3) := dk_17 0 192 (dk_at dksX6_cell_5 15 rfl rfl)
theorem dX6_cell_128 : decode cX6_cell 128 = .ok (.iload 4, 2) := dk_21 4 (dk_at dksX6_cell_5 18 rfl rfl)
theorem dX6_cell_130 : decode cX6_cell 130 = .ok (.iadd, 1) := dk_96 (dk_at dksX6_cell_5 20 rfl rfl)
theorem dX6_cell_131 : decode cX6_cell 131 = .ok (.iaload, 1) := dk_46 (dk_at dksX6_cell_5 21 rfl rfl)
theorem dX6_cell_132 : decode cX6_cell 132 = .ok (.ireturn, 1) := dk_172 (dk_at dksX6_cell_5 22 rfl rfl)
theorem dX6_cell_133 : decode cX6_cell 133 = .ok (.aload_n 0, 1) := dk_42 (dk_at dksX6_cell_5 23 rfl rfl)
theorem dX6_cell_134 : decode cX6_cell 134 = .ok (.aload_n 0, 1) := dk_42 (dk_at dksX6_cell_6 0 rfl rfl)
theorem dX6_cell_135 : decode cX6_cell 135 = .ok (.getfield 269, 3) := dk_180 1 13 (dk_at dksX6_cell_6 1 rfl rfl)
theorem dX6_cell_138 : decode cX6_cell 138 = .ok (.bipush 64, 2) := dk_16 64 (dk_at dksX6_cell_6 4 rfl rfl)
theorem dX6_cell_140 : decode cX6_cell 140 = .ok (.iload 4, 2) := dk_21 4 (dk_at dksX6_cell_6 6 rfl rfl)
theorem dX6_cell_142 : decode cX6_cell 142 = .ok (.iadd, 1) := dk_96 (dk_at dksX6_cell_6 8 rfl rfl)
theorem dX6_cell_143 : decode cX6_cell 143 = .ok (.iaload, 1) := dk_46 (dk_at dksX6_cell_6 9 rfl rfl)
theorem dX6_cell_144 : decode cX6_cell 144 = .ok (.aload_n 0, 1) := dk_42 (dk_at dksX6_cell_6 10 rfl rfl)
theorem dX6_cell_145 : decode cX6_cell 145 = .ok (.getfield 269, 3) := dk_180 1 13 (dk_at dksX6_cell_6 11 rfl rfl)
theorem dX6_cell_148 : decode cX6_cell 148 = .ok (.sipush 128, 3) := dk_17 0 128 (dk_at dksX6_cell_6 14 rfl rfl)
theorem dX6_cell_151 : decode cX6_cell 151 = .ok (.iload 4, 2) := dk_21 4 (dk_at dksX6_cell_6 17 rfl rfl)
theorem dX6_cell_153 : decode cX6_cell 153 = .ok (.iadd, 1) := dk_96 (dk_at dksX6_cell_6 19 rfl rfl)
theorem dX6_cell_154 : decode cX6_cell 154 = .ok (.iaload, 1) := dk_46 (dk_at dksX6_cell_6 20 rfl rfl)
theorem dX6_cell_155 : decode cX6_cell 155 = .ok (.invokevirtual 395, 3) := dk_182 1 139 (dk_at dksX6_cell_6 21 rfl rfl)
theorem dX6_cell_158 : decode cX6_cell 158 = .ok (.ireturn, 1) := dk_172 (dk_at dksX6_cell_7 0 rfl rfl)
abbrev cX6_flag : ByteArray := prog_16_method_66_code
def yX6_flag : MethodName := ⟨RX6, "flag", "(II)I"⟩
def dkwX6_flag_4 : List UInt8 := [96, 46, 172]
abbrev dktX6_flag_4 : List UInt8 := dkwX6_flag_4 ++ []
def dkwX6_flag_3 : List UInt8 := [160, 0, 16, 42, 180, 1, 13, 17, 1, 4, 27, 96, 46, 167, 0, 13, 42, 180, 1, 13, 17, 1, 8, 27]
abbrev dktX6_flag_3 : List UInt8 := dkwX6_flag_3 ++ dktX6_flag_4
def dkwX6_flag_2 : List UInt8 := [167, 0, 49, 28, 4, 160, 0, 16, 42, 180, 1, 13, 17, 1, 0, 27, 96, 46, 167, 0, 31, 28, 5]
abbrev dktX6_flag_2 : List UInt8 := dkwX6_flag_2 ++ dktX6_flag_3
def dkwX6_flag_1 : List UInt8 := [154, 0, 25, 42, 180, 1, 13, 17, 1, 8, 27, 96, 46, 2, 160, 0, 7, 4, 167, 0, 53, 3]
abbrev dktX6_flag_1 : List UInt8 := dkwX6_flag_1 ++ dktX6_flag_2
def dkwX6_flag_0 : List UInt8 := [42, 27, 182, 1, 171, 153, 0, 15, 28, 133, 9, 20, 1, 174, 184, 0, 52, 154, 0, 6, 16, 254, 172, 28]
abbrev dktX6_flag_0 : List UInt8 := dkwX6_flag_0 ++ dktX6_flag_1
theorem dksX6_flag_0 : cX6_flag.data.toList.drop 0 = dktX6_flag_0 := by decide +kernel
theorem dksX6_flag_1 : cX6_flag.data.toList.drop 24 = dktX6_flag_1 := dk_seg dksX6_flag_0 24 rfl rfl
theorem dksX6_flag_2 : cX6_flag.data.toList.drop 46 = dktX6_flag_2 := dk_seg dksX6_flag_1 22 rfl rfl
theorem dksX6_flag_3 : cX6_flag.data.toList.drop 69 = dktX6_flag_3 := dk_seg dksX6_flag_2 23 rfl rfl
theorem dksX6_flag_4 : cX6_flag.data.toList.drop 93 = dktX6_flag_4 := dk_seg dksX6_flag_3 24 rfl rfl
theorem dX6_flag_0 : decode cX6_flag 0 = .ok (.aload_n 0, 1) := dk_42 (dk_at dksX6_flag_0 0 rfl rfl)
theorem dX6_flag_1 : decode cX6_flag 1 = .ok (.iload_n 1, 1) := dk_27 (dk_at dksX6_flag_0 1 rfl rfl)
theorem dX6_flag_2 : decode cX6_flag 2 = .ok (.invokevirtual 427, 3) := dk_182 1 171 (dk_at dksX6_flag_0 2 rfl rfl)
theorem dX6_flag_5 : decode cX6_flag 5 = .ok (.ifCond .eq 15, 3) := dk_153 0 15 (dk_at dksX6_flag_0 5 rfl rfl)
theorem dX6_flag_8 : decode cX6_flag 8 = .ok (.iload_n 2, 1) := dk_28 (dk_at dksX6_flag_0 8 rfl rfl)
theorem dX6_flag_9 : decode cX6_flag 9 = .ok (.i2l, 1) := dk_133 (dk_at dksX6_flag_0 9 rfl rfl)
theorem dX6_flag_10 : decode cX6_flag 10 = .ok (.lconst 0, 1) := dk_9 (dk_at dksX6_flag_0 10 rfl rfl)
theorem dX6_flag_11 : decode cX6_flag 11 = .ok (.ldc2_w 430, 3) := dk_20 1 174 (dk_at dksX6_flag_0 11 rfl rfl)
theorem dX6_flag_14 : decode cX6_flag 14 = .ok (.invokestatic 52, 3) := dk_184 0 52 (dk_at dksX6_flag_0 14 rfl rfl)
theorem dX6_flag_17 : decode cX6_flag 17 = .ok (.ifCond .ne 6, 3) := dk_154 0 6 (dk_at dksX6_flag_0 17 rfl rfl)
theorem dX6_flag_20 : decode cX6_flag 20 = .ok (.bipush (-2), 2) := dk_16 254 (dk_at dksX6_flag_0 20 rfl rfl)
theorem dX6_flag_22 : decode cX6_flag 22 = .ok (.ireturn, 1) := dk_172 (dk_at dksX6_flag_0 22 rfl rfl)
theorem dX6_flag_23 : decode cX6_flag 23 = .ok (.iload_n 2, 1) := dk_28 (dk_at dksX6_flag_0 23 rfl rfl)
theorem dX6_flag_24 : decode cX6_flag 24 = .ok (.ifCond .ne 25, 3) := dk_154 0 25 (dk_at dksX6_flag_1 0 rfl rfl)
theorem dX6_flag_27 : decode cX6_flag 27 = .ok (.aload_n 0, 1) := dk_42 (dk_at dksX6_flag_1 3 rfl rfl)
theorem dX6_flag_28 : decode cX6_flag 28 = .ok (.getfield 269, 3) := dk_180 1 13 (dk_at dksX6_flag_1 4 rfl rfl)
theorem dX6_flag_31 : decode cX6_flag 31 = .ok (.sipush 264, 3) := dk_17 1 8 (dk_at dksX6_flag_1 7 rfl rfl)
theorem dX6_flag_34 : decode cX6_flag 34 = .ok (.iload_n 1, 1) := dk_27 (dk_at dksX6_flag_1 10 rfl rfl)
theorem dX6_flag_35 : decode cX6_flag 35 = .ok (.iadd, 1) := dk_96 (dk_at dksX6_flag_1 11 rfl rfl)
theorem dX6_flag_36 : decode cX6_flag 36 = .ok (.iaload, 1) := dk_46 (dk_at dksX6_flag_1 12 rfl rfl)
theorem dX6_flag_37 : decode cX6_flag 37 = .ok (.iconst (-1), 1) := dk_2 (dk_at dksX6_flag_1 13 rfl rfl)
theorem dX6_flag_38 : decode cX6_flag 38 = .ok (.if_icmp .ne 7, 3) := dk_160 0 7 (dk_at dksX6_flag_1 14 rfl rfl)
theorem dX6_flag_41 : decode cX6_flag 41 = .ok (.iconst 1, 1) := dk_4 (dk_at dksX6_flag_1 17 rfl rfl)
theorem dX6_flag_42 : decode cX6_flag 42 = .ok (.goto 53, 3) := dk_167 0 53 (dk_at dksX6_flag_1 18 rfl rfl)
theorem dX6_flag_45 : decode cX6_flag 45 = .ok (.iconst 0, 1) := dk_3 (dk_at dksX6_flag_1 21 rfl rfl)
theorem dX6_flag_46 : decode cX6_flag 46 = .ok (.goto 49, 3) := dk_167 0 49 (dk_at dksX6_flag_2 0 rfl rfl)
theorem dX6_flag_49 : decode cX6_flag 49 = .ok (.iload_n 2, 1) := dk_28 (dk_at dksX6_flag_2 3 rfl rfl)
theorem dX6_flag_50 : decode cX6_flag 50 = .ok (.iconst 1, 1) := dk_4 (dk_at dksX6_flag_2 4 rfl rfl)
theorem dX6_flag_51 : decode cX6_flag 51 = .ok (.if_icmp .ne 16, 3) := dk_160 0 16 (dk_at dksX6_flag_2 5 rfl rfl)
theorem dX6_flag_54 : decode cX6_flag 54 = .ok (.aload_n 0, 1) := dk_42 (dk_at dksX6_flag_2 8 rfl rfl)
theorem dX6_flag_55 : decode cX6_flag 55 = .ok (.getfield 269, 3) := dk_180 1 13 (dk_at dksX6_flag_2 9 rfl rfl)
theorem dX6_flag_58 : decode cX6_flag 58 = .ok (.sipush 256, 3) := dk_17 1 0 (dk_at dksX6_flag_2 12 rfl rfl)
theorem dX6_flag_61 : decode cX6_flag 61 = .ok (.iload_n 1, 1) := dk_27 (dk_at dksX6_flag_2 15 rfl rfl)
theorem dX6_flag_62 : decode cX6_flag 62 = .ok (.iadd, 1) := dk_96 (dk_at dksX6_flag_2 16 rfl rfl)
theorem dX6_flag_63 : decode cX6_flag 63 = .ok (.iaload, 1) := dk_46 (dk_at dksX6_flag_2 17 rfl rfl)
theorem dX6_flag_64 : decode cX6_flag 64 = .ok (.goto 31, 3) := dk_167 0 31 (dk_at dksX6_flag_2 18 rfl rfl)
theorem dX6_flag_67 : decode cX6_flag 67 = .ok (.iload_n 2, 1) := dk_28 (dk_at dksX6_flag_2 21 rfl rfl)
theorem dX6_flag_68 : decode cX6_flag 68 = .ok (.iconst 2, 1) := dk_5 (dk_at dksX6_flag_2 22 rfl rfl)
theorem dX6_flag_69 : decode cX6_flag 69 = .ok (.if_icmp .ne 16, 3) := dk_160 0 16 (dk_at dksX6_flag_3 0 rfl rfl)
theorem dX6_flag_72 : decode cX6_flag 72 = .ok (.aload_n 0, 1) := dk_42 (dk_at dksX6_flag_3 3 rfl rfl)
theorem dX6_flag_73 : decode cX6_flag 73 = .ok (.getfield 269, 3) := dk_180 1 13 (dk_at dksX6_flag_3 4 rfl rfl)
theorem dX6_flag_76 : decode cX6_flag 76 = .ok (.sipush 260, 3) := dk_17 1 4 (dk_at dksX6_flag_3 7 rfl rfl)
theorem dX6_flag_79 : decode cX6_flag 79 = .ok (.iload_n 1, 1) := dk_27 (dk_at dksX6_flag_3 10 rfl rfl)
theorem dX6_flag_80 : decode cX6_flag 80 = .ok (.iadd, 1) := dk_96 (dk_at dksX6_flag_3 11 rfl rfl)
theorem dX6_flag_81 : decode cX6_flag 81 = .ok (.iaload, 1) := dk_46 (dk_at dksX6_flag_3 12 rfl rfl)
theorem dX6_flag_82 : decode cX6_flag 82 = .ok (.goto 13, 3) := dk_167 0 13 (dk_at dksX6_flag_3 13 rfl rfl)
theorem dX6_flag_85 : decode cX6_flag 85 = .ok (.aload_n 0, 1) := dk_42 (dk_at dksX6_flag_3 16 rfl rfl)
theorem dX6_flag_86 : decode cX6_flag 86 = .ok (.getfield 269, 3) := dk_180 1 13 (dk_at dksX6_flag_3 17 rfl rfl)
theorem dX6_flag_89 : decode cX6_flag 89 = .ok (.sipush 264, 3) := dk_17 1 8 (dk_at dksX6_flag_3 20 rfl rfl)
theorem dX6_flag_92 : decode cX6_flag 92 = .ok (.iload_n 1, 1) := dk_27 (dk_at dksX6_flag_3 23 rfl rfl)
theorem dX6_flag_93 : decode cX6_flag 93 = .ok (.iadd, 1) := dk_96 (dk_at dksX6_flag_4 0 rfl rfl)
theorem dX6_flag_94 : decode cX6_flag 94 = .ok (.iaload, 1) := dk_46 (dk_at dksX6_flag_4 1 rfl rfl)
theorem dX6_flag_95 : decode cX6_flag 95 = .ok (.ireturn, 1) := dk_172 (dk_at dksX6_flag_4 2 rfl rfl)
abbrev cX6_isFlag : ByteArray := prog_16_method_65_code
def yX6_isFlag : MethodName := ⟨RX6, "isFlag", "(I)Z"⟩
def dkwX6_isFlag_0 : List UInt8 := [27, 133, 9, 42, 180, 1, 55, 133, 10, 101, 184, 0, 52, 172]
abbrev dktX6_isFlag_0 : List UInt8 := dkwX6_isFlag_0 ++ []
theorem dksX6_isFlag_0 : cX6_isFlag.data.toList.drop 0 = dktX6_isFlag_0 := by decide +kernel
theorem dX6_isFlag_0 : decode cX6_isFlag 0 = .ok (.iload_n 1, 1) := dk_27 (dk_at dksX6_isFlag_0 0 rfl rfl)
theorem dX6_isFlag_1 : decode cX6_isFlag 1 = .ok (.i2l, 1) := dk_133 (dk_at dksX6_isFlag_0 1 rfl rfl)
theorem dX6_isFlag_2 : decode cX6_isFlag 2 = .ok (.lconst 0, 1) := dk_9 (dk_at dksX6_isFlag_0 2 rfl rfl)
theorem dX6_isFlag_3 : decode cX6_isFlag 3 = .ok (.aload_n 0, 1) := dk_42 (dk_at dksX6_isFlag_0 3 rfl rfl)
theorem dX6_isFlag_4 : decode cX6_isFlag 4 = .ok (.getfield 311, 3) := dk_180 1 55 (dk_at dksX6_isFlag_0 4 rfl rfl)
theorem dX6_isFlag_7 : decode cX6_isFlag 7 = .ok (.i2l, 1) := dk_133 (dk_at dksX6_isFlag_0 7 rfl rfl)
theorem dX6_isFlag_8 : decode cX6_isFlag 8 = .ok (.lconst 1, 1) := dk_10 (dk_at dksX6_isFlag_0 8 rfl rfl)
theorem dX6_isFlag_9 : decode cX6_isFlag 9 = .ok (.lsub, 1) := dk_101 (dk_at dksX6_isFlag_0 9 rfl rfl)
theorem dX6_isFlag_10 : decode cX6_isFlag 10 = .ok (.invokestatic 52, 3) := dk_184 0 52 (dk_at dksX6_isFlag_0 10 rfl rfl)
theorem dX6_isFlag_13 : decode cX6_isFlag 13 = .ok (.ireturn, 1) := dk_172 (dk_at dksX6_isFlag_0 13 rfl rfl)
abbrev cX6_sum : ByteArray := prog_16_method_67_code
def yX6_sum : MethodName := ⟨RX6, "sum", "(I)I"⟩
def dkwX6_sum_5 : List UInt8 := [180, 1, 13, 17, 1, 18, 46, 172, 2, 172]
abbrev dktX6_sum_5 : List UInt8 := dkwX6_sum_5 ++ []
def dkwX6_sum_4 : List UInt8 := [17, 1, 15, 46, 172, 42, 180, 1, 13, 17, 1, 16, 46, 172, 42, 180, 1, 13, 17, 1, 17, 46, 172, 42]
abbrev dktX6_sum_4 : List UInt8 := dkwX6_sum_4 ++ dktX6_sum_5
def dkwX6_sum_3 : List UInt8 := [28, 172, 42, 180, 1, 13, 17, 1, 13, 46, 172, 42, 180, 1, 13, 17, 1, 14, 46, 172, 42, 180, 1, 13]
abbrev dktX6_sum_3 : List UInt8 := dkwX6_sum_3 ++ dktX6_sum_4
def dkwX6_sum_2 : List UInt8 := [170, 0, 0, 0, 97, 0, 0, 0, 0, 0, 0, 0, 6, 0, 0, 0, 41, 0, 0, 0, 43, 0, 0, 0, 52, 0, 0, 0, 61, 0, 0, 0, 70, 0, 0, 0, 79, 0, 0, 0, 88]
abbrev dktX6_sum_2 : List UInt8 := dkwX6_sum_2 ++ dktX6_sum_3
def dkwX6_sum_1 : List UInt8 := [96, 46, 96, 61, 132, 3, 1, 167, 255, 229, 27]
abbrev dktX6_sum_1 : List UInt8 := dkwX6_sum_1 ++ dktX6_sum_2
def dkwX6_sum_0 : List UInt8 := [3, 61, 3, 62, 29, 42, 180, 0, 201, 42, 180, 0, 204, 104, 162, 0, 20, 28, 42, 180, 1, 13, 3, 29]
abbrev dktX6_sum_0 : List UInt8 := dkwX6_sum_0 ++ dktX6_sum_1
theorem dksX6_sum_0 : cX6_sum.data.toList.drop 0 = dktX6_sum_0 := by decide +kernel
theorem dksX6_sum_1 : cX6_sum.data.toList.drop 24 = dktX6_sum_1 := dk_seg dksX6_sum_0 24 rfl rfl
theorem dksX6_sum_2 : cX6_sum.data.toList.drop 35 = dktX6_sum_2 := dk_seg dksX6_sum_1 11 rfl rfl
theorem dksX6_sum_3 : cX6_sum.data.toList.drop 76 = dktX6_sum_3 := dk_seg dksX6_sum_2 41 rfl rfl
theorem dksX6_sum_4 : cX6_sum.data.toList.drop 100 = dktX6_sum_4 := dk_seg dksX6_sum_3 24 rfl rfl
theorem dksX6_sum_5 : cX6_sum.data.toList.drop 124 = dktX6_sum_5 := dk_seg dksX6_sum_4 24 rfl rfl
theorem dX6_sum_0 : decode cX6_sum 0 = .ok (.iconst 0, 1) := dk_3 (dk_at dksX6_sum_0 0 rfl rfl)
theorem dX6_sum_1 : decode cX6_sum 1 = .ok (.istore_n 2, 1) := dk_61 (dk_at dksX6_sum_0 1 rfl rfl)
theorem dX6_sum_2 : decode cX6_sum 2 = .ok (.iconst 0, 1) := dk_3 (dk_at dksX6_sum_0 2 rfl rfl)
theorem dX6_sum_3 : decode cX6_sum 3 = .ok (.istore_n 3, 1) := dk_62 (dk_at dksX6_sum_0 3 rfl rfl)
theorem dX6_sum_4 : decode cX6_sum 4 = .ok (.iload_n 3, 1) := dk_29 (dk_at dksX6_sum_0 4 rfl rfl)
theorem dX6_sum_5 : decode cX6_sum 5 = .ok (.aload_n 0, 1) := dk_42 (dk_at dksX6_sum_0 5 rfl rfl)
theorem dX6_sum_6 : decode cX6_sum 6 = .ok (.getfield 201, 3) := dk_180 0 201 (dk_at dksX6_sum_0 6 rfl rfl)
theorem dX6_sum_9 : decode cX6_sum 9 = .ok (.aload_n 0, 1) := dk_42 (dk_at dksX6_sum_0 9 rfl rfl)
theorem dX6_sum_10 : decode cX6_sum 10 = .ok (.getfield 204, 3) := dk_180 0 204 (dk_at dksX6_sum_0 10 rfl rfl)
theorem dX6_sum_13 : decode cX6_sum 13 = .ok (.imul, 1) := dk_104 (dk_at dksX6_sum_0 13 rfl rfl)
theorem dX6_sum_14 : decode cX6_sum 14 = .ok (.if_icmp .ge 20, 3) := dk_162 0 20 (dk_at dksX6_sum_0 14 rfl rfl)
theorem dX6_sum_17 : decode cX6_sum 17 = .ok (.iload_n 2, 1) := dk_28 (dk_at dksX6_sum_0 17 rfl rfl)
theorem dX6_sum_18 : decode cX6_sum 18 = .ok (.aload_n 0, 1) := dk_42 (dk_at dksX6_sum_0 18 rfl rfl)
theorem dX6_sum_19 : decode cX6_sum 19 = .ok (.getfield 269, 3) := dk_180 1 13 (dk_at dksX6_sum_0 19 rfl rfl)
theorem dX6_sum_22 : decode cX6_sum 22 = .ok (.iconst 0, 1) := dk_3 (dk_at dksX6_sum_0 22 rfl rfl)
theorem dX6_sum_23 : decode cX6_sum 23 = .ok (.iload_n 3, 1) := dk_29 (dk_at dksX6_sum_0 23 rfl rfl)
theorem dX6_sum_24 : decode cX6_sum 24 = .ok (.iadd, 1) := dk_96 (dk_at dksX6_sum_1 0 rfl rfl)
theorem dX6_sum_25 : decode cX6_sum 25 = .ok (.iaload, 1) := dk_46 (dk_at dksX6_sum_1 1 rfl rfl)
theorem dX6_sum_26 : decode cX6_sum 26 = .ok (.iadd, 1) := dk_96 (dk_at dksX6_sum_1 2 rfl rfl)
theorem dX6_sum_27 : decode cX6_sum 27 = .ok (.istore_n 2, 1) := dk_61 (dk_at dksX6_sum_1 3 rfl rfl)
theorem dX6_sum_28 : decode cX6_sum 28 = .ok (.iinc 3 1, 3) := dk_132 3 1 (dk_at dksX6_sum_1 4 rfl rfl)
theorem dX6_sum_31 : decode cX6_sum 31 = .ok (.goto (-27), 3) := dk_167 255 229 (dk_at dksX6_sum_1 7 rfl rfl)
theorem dX6_sum_34 : decode cX6_sum 34 = .ok (.iload_n 1, 1) := dk_27 (dk_at dksX6_sum_1 10 rfl rfl)
theorem dX6_sum_35 : decode cX6_sum 35 = .ok (.tableswitch 97 0 6 #[41, 43, 52, 61, 70, 79, 88], 41) := by decide +kernel
theorem dX6_sum_76 : decode cX6_sum 76 = .ok (.iload_n 2, 1) := dk_28 (dk_at dksX6_sum_3 0 rfl rfl)
theorem dX6_sum_77 : decode cX6_sum 77 = .ok (.ireturn, 1) := dk_172 (dk_at dksX6_sum_3 1 rfl rfl)
theorem dX6_sum_78 : decode cX6_sum 78 = .ok (.aload_n 0, 1) := dk_42 (dk_at dksX6_sum_3 2 rfl rfl)
theorem dX6_sum_79 : decode cX6_sum 79 = .ok (.getfield 269, 3) := dk_180 1 13 (dk_at dksX6_sum_3 3 rfl rfl)
theorem dX6_sum_82 : decode cX6_sum 82 = .ok (.sipush 269, 3) := dk_17 1 13 (dk_at dksX6_sum_3 6 rfl rfl)
theorem dX6_sum_85 : decode cX6_sum 85 = .ok (.iaload, 1) := dk_46 (dk_at dksX6_sum_3 9 rfl rfl)
theorem dX6_sum_86 : decode cX6_sum 86 = .ok (.ireturn, 1) := dk_172 (dk_at dksX6_sum_3 10 rfl rfl)
theorem dX6_sum_87 : decode cX6_sum 87 = .ok (.aload_n 0, 1) := dk_42 (dk_at dksX6_sum_3 11 rfl rfl)
theorem dX6_sum_88 : decode cX6_sum 88 = .ok (.getfield 269, 3) := dk_180 1 13 (dk_at dksX6_sum_3 12 rfl rfl)
theorem dX6_sum_91 : decode cX6_sum 91 = .ok (.sipush 270, 3) := dk_17 1 14 (dk_at dksX6_sum_3 15 rfl rfl)
theorem dX6_sum_94 : decode cX6_sum 94 = .ok (.iaload, 1) := dk_46 (dk_at dksX6_sum_3 18 rfl rfl)
theorem dX6_sum_95 : decode cX6_sum 95 = .ok (.ireturn, 1) := dk_172 (dk_at dksX6_sum_3 19 rfl rfl)
theorem dX6_sum_96 : decode cX6_sum 96 = .ok (.aload_n 0, 1) := dk_42 (dk_at dksX6_sum_3 20 rfl rfl)
theorem dX6_sum_97 : decode cX6_sum 97 = .ok (.getfield 269, 3) := dk_180 1 13 (dk_at dksX6_sum_3 21 rfl rfl)
theorem dX6_sum_100 : decode cX6_sum 100 = .ok (.sipush 271, 3) := dk_17 1 15 (dk_at dksX6_sum_4 0 rfl rfl)
theorem dX6_sum_103 : decode cX6_sum 103 = .ok (.iaload, 1) := dk_46 (dk_at dksX6_sum_4 3 rfl rfl)
theorem dX6_sum_104 : decode cX6_sum 104 = .ok (.ireturn, 1) := dk_172 (dk_at dksX6_sum_4 4 rfl rfl)
theorem dX6_sum_105 : decode cX6_sum 105 = .ok (.aload_n 0, 1) := dk_42 (dk_at dksX6_sum_4 5 rfl rfl)
theorem dX6_sum_106 : decode cX6_sum 106 = .ok (.getfield 269, 3) := dk_180 1 13 (dk_at dksX6_sum_4 6 rfl rfl)
theorem dX6_sum_109 : decode cX6_sum 109 = .ok (.sipush 272, 3) := dk_17 1 16 (dk_at dksX6_sum_4 9 rfl rfl)
theorem dX6_sum_112 : decode cX6_sum 112 = .ok (.iaload, 1) := dk_46 (dk_at dksX6_sum_4 12 rfl rfl)
theorem dX6_sum_113 : decode cX6_sum 113 = .ok (.ireturn, 1) := dk_172 (dk_at dksX6_sum_4 13 rfl rfl)
theorem dX6_sum_114 : decode cX6_sum 114 = .ok (.aload_n 0, 1) := dk_42 (dk_at dksX6_sum_4 14 rfl rfl)
theorem dX6_sum_115 : decode cX6_sum 115 = .ok (.getfield 269, 3) := dk_180 1 13 (dk_at dksX6_sum_4 15 rfl rfl)
theorem dX6_sum_118 : decode cX6_sum 118 = .ok (.sipush 273, 3) := dk_17 1 17 (dk_at dksX6_sum_4 18 rfl rfl)
theorem dX6_sum_121 : decode cX6_sum 121 = .ok (.iaload, 1) := dk_46 (dk_at dksX6_sum_4 21 rfl rfl)
theorem dX6_sum_122 : decode cX6_sum 122 = .ok (.ireturn, 1) := dk_172 (dk_at dksX6_sum_4 22 rfl rfl)
theorem dX6_sum_123 : decode cX6_sum 123 = .ok (.aload_n 0, 1) := dk_42 (dk_at dksX6_sum_4 23 rfl rfl)
theorem dX6_sum_124 : decode cX6_sum 124 = .ok (.getfield 269, 3) := dk_180 1 13 (dk_at dksX6_sum_5 0 rfl rfl)
theorem dX6_sum_127 : decode cX6_sum 127 = .ok (.sipush 274, 3) := dk_17 1 18 (dk_at dksX6_sum_5 3 rfl rfl)
theorem dX6_sum_130 : decode cX6_sum 130 = .ok (.iaload, 1) := dk_46 (dk_at dksX6_sum_5 6 rfl rfl)
theorem dX6_sum_131 : decode cX6_sum 131 = .ok (.ireturn, 1) := dk_172 (dk_at dksX6_sum_5 7 rfl rfl)
theorem dX6_sum_132 : decode cX6_sum 132 = .ok (.iconst (-1), 1) := dk_2 (dk_at dksX6_sum_5 8 rfl rfl)
theorem dX6_sum_133 : decode cX6_sum 133 = .ok (.ireturn, 1) := dk_172 (dk_at dksX6_sum_5 9 rfl rfl)
abbrev cX6_keep : ByteArray := prog_16_method_69_code
def yX6_keep : MethodName := ⟨RX6, "keep", "(I)I"⟩
def dkwX6_keep_2 : List UInt8 := [27, 4, 84, 42, 180, 1, 13, 17, 1, 14, 46, 172]
abbrev dktX6_keep_2 : List UInt8 := dkwX6_keep_2 ++ []
def dkwX6_keep_1 : List UInt8 := [17, 1, 33, 27, 104, 28, 96, 42, 180, 1, 13, 28, 46, 79, 132, 2, 1, 167, 255, 228, 42, 180, 1, 22]
abbrev dktX6_keep_1 : List UInt8 := dkwX6_keep_1 ++ dktX6_keep_2
def dkwX6_keep_0 : List UInt8 := [27, 184, 1, 176, 154, 0, 6, 16, 254, 172, 3, 61, 28, 17, 1, 33, 162, 0, 27, 42, 180, 1, 19]
abbrev dktX6_keep_0 : List UInt8 := dkwX6_keep_0 ++ dktX6_keep_1
theorem dksX6_keep_0 : cX6_keep.data.toList.drop 0 = dktX6_keep_0 := by decide +kernel
theorem dksX6_keep_1 : cX6_keep.data.toList.drop 23 = dktX6_keep_1 := dk_seg dksX6_keep_0 23 rfl rfl
theorem dksX6_keep_2 : cX6_keep.data.toList.drop 47 = dktX6_keep_2 := dk_seg dksX6_keep_1 24 rfl rfl
theorem dX6_keep_0 : decode cX6_keep 0 = .ok (.iload_n 1, 1) := dk_27 (dk_at dksX6_keep_0 0 rfl rfl)
theorem dX6_keep_1 : decode cX6_keep 1 = .ok (.invokestatic 432, 3) := dk_184 1 176 (dk_at dksX6_keep_0 1 rfl rfl)
theorem dX6_keep_4 : decode cX6_keep 4 = .ok (.ifCond .ne 6, 3) := dk_154 0 6 (dk_at dksX6_keep_0 4 rfl rfl)
theorem dX6_keep_7 : decode cX6_keep 7 = .ok (.bipush (-2), 2) := dk_16 254 (dk_at dksX6_keep_0 7 rfl rfl)
theorem dX6_keep_9 : decode cX6_keep 9 = .ok (.ireturn, 1) := dk_172 (dk_at dksX6_keep_0 9 rfl rfl)
theorem dX6_keep_10 : decode cX6_keep 10 = .ok (.iconst 0, 1) := dk_3 (dk_at dksX6_keep_0 10 rfl rfl)
theorem dX6_keep_11 : decode cX6_keep 11 = .ok (.istore_n 2, 1) := dk_61 (dk_at dksX6_keep_0 11 rfl rfl)
theorem dX6_keep_12 : decode cX6_keep 12 = .ok (.iload_n 2, 1) := dk_28 (dk_at dksX6_keep_0 12 rfl rfl)
theorem dX6_keep_13 : decode cX6_keep 13 = .ok (.sipush 289, 3) := dk_17 1 33 (dk_at dksX6_keep_0 13 rfl rfl)
theorem dX6_keep_16 : decode cX6_keep 16 = .ok (.if_icmp .ge 27, 3) := dk_162 0 27 (dk_at dksX6_keep_0 16 rfl rfl)
theorem dX6_keep_19 : decode cX6_keep 19 = .ok (.aload_n 0, 1) := dk_42 (dk_at dksX6_keep_0 19 rfl rfl)
theorem dX6_keep_20 : decode cX6_keep 20 = .ok (.getfield 275, 3) := dk_180 1 19 (dk_at dksX6_keep_0 20 rfl rfl)
theorem dX6_keep_23 : decode cX6_keep 23 = .ok (.sipush 289, 3) := dk_17 1 33 (dk_at dksX6_keep_1 0 rfl rfl)
theorem dX6_keep_26 : decode cX6_keep 26 = .ok (.iload_n 1, 1) := dk_27 (dk_at dksX6_keep_1 3 rfl rfl)
theorem dX6_keep_27 : decode cX6_keep 27 = .ok (.imul, 1) := dk_104 (dk_at dksX6_keep_1 4 rfl rfl)
theorem dX6_keep_28 : decode cX6_keep 28 = .ok (.iload_n 2, 1) := dk_28 (dk_at dksX6_keep_1 5 rfl rfl)
theorem dX6_keep_29 : decode cX6_keep 29 = .ok (.iadd, 1) := dk_96 (dk_at dksX6_keep_1 6 rfl rfl)
theorem dX6_keep_30 : decode cX6_keep 30 = .ok (.aload_n 0, 1) := dk_42 (dk_at dksX6_keep_1 7 rfl rfl)
theorem dX6_keep_31 : decode cX6_keep 31 = .ok (.getfield 269, 3) := dk_180 1 13 (dk_at dksX6_keep_1 8 rfl rfl)
theorem dX6_keep_34 : decode cX6_keep 34 = .ok (.iload_n 2, 1) := dk_28 (dk_at dksX6_keep_1 11 rfl rfl)
theorem dX6_keep_35 : decode cX6_keep 35 = .ok (.iaload, 1) := dk_46 (dk_at dksX6_keep_1 12 rfl rfl)
theorem dX6_keep_36 : decode cX6_keep 36 = .ok (.iastore, 1) := dk_79 (dk_at dksX6_keep_1 13 rfl rfl)
theorem dX6_keep_37 : decode cX6_keep 37 = .ok (.iinc 2 1, 3) := dk_132 2 1 (dk_at dksX6_keep_1 14 rfl rfl)
theorem dX6_keep_40 : decode cX6_keep 40 = .ok (.goto (-28), 3) := dk_167 255 228 (dk_at dksX6_keep_1 17 rfl rfl)
theorem dX6_keep_43 : decode cX6_keep 43 = .ok (.aload_n 0, 1) := dk_42 (dk_at dksX6_keep_1 20 rfl rfl)
theorem dX6_keep_44 : decode cX6_keep 44 = .ok (.getfield 278, 3) := dk_180 1 22 (dk_at dksX6_keep_1 21 rfl rfl)
theorem dX6_keep_47 : decode cX6_keep 47 = .ok (.iload_n 1, 1) := dk_27 (dk_at dksX6_keep_2 0 rfl rfl)
theorem dX6_keep_48 : decode cX6_keep 48 = .ok (.iconst 1, 1) := dk_4 (dk_at dksX6_keep_2 1 rfl rfl)
theorem dX6_keep_49 : decode cX6_keep 49 = .ok (.bastore, 1) := dk_84 (dk_at dksX6_keep_2 2 rfl rfl)
theorem dX6_keep_50 : decode cX6_keep 50 = .ok (.aload_n 0, 1) := dk_42 (dk_at dksX6_keep_2 3 rfl rfl)
theorem dX6_keep_51 : decode cX6_keep 51 = .ok (.getfield 269, 3) := dk_180 1 13 (dk_at dksX6_keep_2 4 rfl rfl)
theorem dX6_keep_54 : decode cX6_keep 54 = .ok (.sipush 270, 3) := dk_17 1 14 (dk_at dksX6_keep_2 7 rfl rfl)
theorem dX6_keep_57 : decode cX6_keep 57 = .ok (.iaload, 1) := dk_46 (dk_at dksX6_keep_2 10 rfl rfl)
theorem dX6_keep_58 : decode cX6_keep 58 = .ok (.ireturn, 1) := dk_172 (dk_at dksX6_keep_2 11 rfl rfl)
abbrev cX6_isSlot : ByteArray := prog_16_method_68_code
def yX6_isSlot : MethodName := ⟨RX6, "isSlot", "(I)Z"⟩
def dkwX6_isSlot_0 : List UInt8 := [26, 133, 9, 20, 1, 87, 184, 0, 52, 172]
abbrev dktX6_isSlot_0 : List UInt8 := dkwX6_isSlot_0 ++ []
theorem dksX6_isSlot_0 : cX6_isSlot.data.toList.drop 0 = dktX6_isSlot_0 := by decide +kernel
theorem dX6_isSlot_0 : decode cX6_isSlot 0 = .ok (.iload_n 0, 1) := dk_26 (dk_at dksX6_isSlot_0 0 rfl rfl)
theorem dX6_isSlot_1 : decode cX6_isSlot 1 = .ok (.i2l, 1) := dk_133 (dk_at dksX6_isSlot_0 1 rfl rfl)
theorem dX6_isSlot_2 : decode cX6_isSlot 2 = .ok (.lconst 0, 1) := dk_9 (dk_at dksX6_isSlot_0 2 rfl rfl)
theorem dX6_isSlot_3 : decode cX6_isSlot 3 = .ok (.ldc2_w 343, 3) := dk_20 1 87 (dk_at dksX6_isSlot_0 3 rfl rfl)
theorem dX6_isSlot_6 : decode cX6_isSlot 6 = .ok (.invokestatic 52, 3) := dk_184 0 52 (dk_at dksX6_isSlot_0 6 rfl rfl)
theorem dX6_isSlot_9 : decode cX6_isSlot 9 = .ok (.ireturn, 1) := dk_172 (dk_at dksX6_isSlot_0 9 rfl rfl)
abbrev cX6_take : ByteArray := prog_16_method_70_code
def yX6_take : MethodName := ⟨RX6, "take", "(I)I"⟩
def dkwX6_take_2 : List UInt8 := [79, 132, 2, 1, 167, 255, 228, 42, 180, 1, 13, 17, 1, 14, 46, 172]
abbrev dktX6_take_2 : List UInt8 := dkwX6_take_2 ++ []
def dkwX6_take_1 : List UInt8 := [28, 17, 1, 33, 162, 0, 27, 42, 180, 1, 13, 28, 42, 180, 1, 19, 17, 1, 33, 27, 104, 28, 96, 46]
abbrev dktX6_take_1 : List UInt8 := dkwX6_take_1 ++ dktX6_take_2
def dkwX6_take_0 : List UInt8 := [27, 184, 1, 176, 154, 0, 6, 16, 254, 172, 42, 180, 1, 22, 27, 51, 154, 0, 6, 16, 252, 172, 3, 61]
abbrev dktX6_take_0 : List UInt8 := dkwX6_take_0 ++ dktX6_take_1
theorem dksX6_take_0 : cX6_take.data.toList.drop 0 = dktX6_take_0 := by decide +kernel
theorem dksX6_take_1 : cX6_take.data.toList.drop 24 = dktX6_take_1 := dk_seg dksX6_take_0 24 rfl rfl
theorem dksX6_take_2 : cX6_take.data.toList.drop 48 = dktX6_take_2 := dk_seg dksX6_take_1 24 rfl rfl
theorem dX6_take_0 : decode cX6_take 0 = .ok (.iload_n 1, 1) := dk_27 (dk_at dksX6_take_0 0 rfl rfl)
theorem dX6_take_1 : decode cX6_take 1 = .ok (.invokestatic 432, 3) := dk_184 1 176 (dk_at dksX6_take_0 1 rfl rfl)
theorem dX6_take_4 : decode cX6_take 4 = .ok (.ifCond .ne 6, 3) := dk_154 0 6 (dk_at dksX6_take_0 4 rfl rfl)
theorem dX6_take_7 : decode cX6_take 7 = .ok (.bipush (-2), 2) := dk_16 254 (dk_at dksX6_take_0 7 rfl rfl)
theorem dX6_take_9 : decode cX6_take 9 = .ok (.ireturn, 1) := dk_172 (dk_at dksX6_take_0 9 rfl rfl)
theorem dX6_take_10 : decode cX6_take 10 = .ok (.aload_n 0, 1) := dk_42 (dk_at dksX6_take_0 10 rfl rfl)
theorem dX6_take_11 : decode cX6_take 11 = .ok (.getfield 278, 3) := dk_180 1 22 (dk_at dksX6_take_0 11 rfl rfl)
theorem dX6_take_14 : decode cX6_take 14 = .ok (.iload_n 1, 1) := dk_27 (dk_at dksX6_take_0 14 rfl rfl)
theorem dX6_take_15 : decode cX6_take 15 = .ok (.baload, 1) := dk_51 (dk_at dksX6_take_0 15 rfl rfl)
theorem dX6_take_16 : decode cX6_take 16 = .ok (.ifCond .ne 6, 3) := dk_154 0 6 (dk_at dksX6_take_0 16 rfl rfl)
theorem dX6_take_19 : decode cX6_take 19 = .ok (.bipush (-4), 2) := dk_16 252 (dk_at dksX6_take_0 19 rfl rfl)
theorem dX6_take_21 : decode cX6_take 21 = .ok (.ireturn, 1) := dk_172 (dk_at dksX6_take_0 21 rfl rfl)
theorem dX6_take_22 : decode cX6_take 22 = .ok (.iconst 0, 1) := dk_3 (dk_at dksX6_take_0 22 rfl rfl)
theorem dX6_take_23 : decode cX6_take 23 = .ok (.istore_n 2, 1) := dk_61 (dk_at dksX6_take_0 23 rfl rfl)
theorem dX6_take_24 : decode cX6_take 24 = .ok (.iload_n 2, 1) := dk_28 (dk_at dksX6_take_1 0 rfl rfl)
theorem dX6_take_25 : decode cX6_take 25 = .ok (.sipush 289, 3) := dk_17 1 33 (dk_at dksX6_take_1 1 rfl rfl)
theorem dX6_take_28 : decode cX6_take 28 = .ok (.if_icmp .ge 27, 3) := dk_162 0 27 (dk_at dksX6_take_1 4 rfl rfl)
theorem dX6_take_31 : decode cX6_take 31 = .ok (.aload_n 0, 1) := dk_42 (dk_at dksX6_take_1 7 rfl rfl)
theorem dX6_take_32 : decode cX6_take 32 = .ok (.getfield 269, 3) := dk_180 1 13 (dk_at dksX6_take_1 8 rfl rfl)
theorem dX6_take_35 : decode cX6_take 35 = .ok (.iload_n 2, 1) := dk_28 (dk_at dksX6_take_1 11 rfl rfl)
theorem dX6_take_36 : decode cX6_take 36 = .ok (.aload_n 0, 1) := dk_42 (dk_at dksX6_take_1 12 rfl rfl)
theorem dX6_take_37 : decode cX6_take 37 = .ok (.getfield 275, 3) := dk_180 1 19 (dk_at dksX6_take_1 13 rfl rfl)
theorem dX6_take_40 : decode cX6_take 40 = .ok (.sipush 289, 3) := dk_17 1 33 (dk_at dksX6_take_1 16 rfl rfl)
theorem dX6_take_43 : decode cX6_take 43 = .ok (.iload_n 1, 1) := dk_27 (dk_at dksX6_take_1 19 rfl rfl)
theorem dX6_take_44 : decode cX6_take 44 = .ok (.imul, 1) := dk_104 (dk_at dksX6_take_1 20 rfl rfl)
theorem dX6_take_45 : decode cX6_take 45 = .ok (.iload_n 2, 1) := dk_28 (dk_at dksX6_take_1 21 rfl rfl)
theorem dX6_take_46 : decode cX6_take 46 = .ok (.iadd, 1) := dk_96 (dk_at dksX6_take_1 22 rfl rfl)
theorem dX6_take_47 : decode cX6_take 47 = .ok (.iaload, 1) := dk_46 (dk_at dksX6_take_1 23 rfl rfl)
theorem dX6_take_48 : decode cX6_take 48 = .ok (.iastore, 1) := dk_79 (dk_at dksX6_take_2 0 rfl rfl)
theorem dX6_take_49 : decode cX6_take 49 = .ok (.iinc 2 1, 3) := dk_132 2 1 (dk_at dksX6_take_2 1 rfl rfl)
theorem dX6_take_52 : decode cX6_take 52 = .ok (.goto (-28), 3) := dk_167 255 228 (dk_at dksX6_take_2 4 rfl rfl)
theorem dX6_take_55 : decode cX6_take 55 = .ok (.aload_n 0, 1) := dk_42 (dk_at dksX6_take_2 7 rfl rfl)
theorem dX6_take_56 : decode cX6_take 56 = .ok (.getfield 269, 3) := dk_180 1 13 (dk_at dksX6_take_2 8 rfl rfl)
theorem dX6_take_59 : decode cX6_take 59 = .ok (.sipush 270, 3) := dk_17 1 14 (dk_at dksX6_take_2 11 rfl rfl)
theorem dX6_take_62 : decode cX6_take 62 = .ok (.iaload, 1) := dk_46 (dk_at dksX6_take_2 14 rfl rfl)
theorem dX6_take_63 : decode cX6_take 63 = .ok (.ireturn, 1) := dk_172 (dk_at dksX6_take_2 15 rfl rfl)
abbrev cX6_holds : ByteArray := prog_16_method_72_code
def yX6_holds : MethodName := ⟨RX6, "holds", "(II)I"⟩
def dkwX6_holds_0 : List UInt8 := [27, 28, 184, 1, 179, 153, 0, 12, 42, 27, 28, 182, 1, 139, 167, 0, 5, 16, 254, 172]
abbrev dktX6_holds_0 : List UInt8 := dkwX6_holds_0 ++ []
theorem dksX6_holds_0 : cX6_holds.data.toList.drop 0 = dktX6_holds_0 := by decide +kernel
theorem dX6_holds_0 : decode cX6_holds 0 = .ok (.iload_n 1, 1) := dk_27 (dk_at dksX6_holds_0 0 rfl rfl)
theorem dX6_holds_1 : decode cX6_holds 1 = .ok (.iload_n 2, 1) := dk_28 (dk_at dksX6_holds_0 1 rfl rfl)
theorem dX6_holds_2 : decode cX6_holds 2 = .ok (.invokestatic 435, 3) := dk_184 1 179 (dk_at dksX6_holds_0 2 rfl rfl)
theorem dX6_holds_5 : decode cX6_holds 5 = .ok (.ifCond .eq 12, 3) := dk_153 0 12 (dk_at dksX6_holds_0 5 rfl rfl)
theorem dX6_holds_8 : decode cX6_holds 8 = .ok (.aload_n 0, 1) := dk_42 (dk_at dksX6_holds_0 8 rfl rfl)
theorem dX6_holds_9 : decode cX6_holds 9 = .ok (.iload_n 1, 1) := dk_27 (dk_at dksX6_holds_0 9 rfl rfl)
theorem dX6_holds_10 : decode cX6_holds 10 = .ok (.iload_n 2, 1) := dk_28 (dk_at dksX6_holds_0 10 rfl rfl)
theorem dX6_holds_11 : decode cX6_holds 11 = .ok (.invokevirtual 395, 3) := dk_182 1 139 (dk_at dksX6_holds_0 11 rfl rfl)
theorem dX6_holds_14 : decode cX6_holds 14 = .ok (.goto 5, 3) := dk_167 0 5 (dk_at dksX6_holds_0 14 rfl rfl)
theorem dX6_holds_17 : decode cX6_holds 17 = .ok (.bipush (-2), 2) := dk_16 254 (dk_at dksX6_holds_0 17 rfl rfl)
theorem dX6_holds_19 : decode cX6_holds 19 = .ok (.ireturn, 1) := dk_172 (dk_at dksX6_holds_0 19 rfl rfl)
abbrev cX6_isSand : ByteArray := prog_16_method_71_code
def yX6_isSand : MethodName := ⟨RX6, "isSand", "(II)Z"⟩
def dkwX6_isSand_1 : List UInt8 := [4, 167, 0, 4, 3, 172]
abbrev dktX6_isSand_1 : List UInt8 := dkwX6_isSand_1 ++ []
def dkwX6_isSand_0 : List UInt8 := [26, 133, 9, 20, 1, 93, 184, 0, 52, 153, 0, 19, 27, 133, 9, 20, 1, 169, 184, 0, 52, 153, 0, 7]
abbrev dktX6_isSand_0 : List UInt8 := dkwX6_isSand_0 ++ dktX6_isSand_1
theorem dksX6_isSand_0 : cX6_isSand.data.toList.drop 0 = dktX6_isSand_0 := by decide +kernel
theorem dksX6_isSand_1 : cX6_isSand.data.toList.drop 24 = dktX6_isSand_1 := dk_seg dksX6_isSand_0 24 rfl rfl
theorem dX6_isSand_0 : decode cX6_isSand 0 = .ok (.iload_n 0, 1) := dk_26 (dk_at dksX6_isSand_0 0 rfl rfl)
theorem dX6_isSand_1 : decode cX6_isSand 1 = .ok (.i2l, 1) := dk_133 (dk_at dksX6_isSand_0 1 rfl rfl)
theorem dX6_isSand_2 : decode cX6_isSand 2 = .ok (.lconst 0, 1) := dk_9 (dk_at dksX6_isSand_0 2 rfl rfl)
theorem dX6_isSand_3 : decode cX6_isSand 3 = .ok (.ldc2_w 349, 3) := dk_20 1 93 (dk_at dksX6_isSand_0 3 rfl rfl)
theorem dX6_isSand_6 : decode cX6_isSand 6 = .ok (.invokestatic 52, 3) := dk_184 0 52 (dk_at dksX6_isSand_0 6 rfl rfl)
theorem dX6_isSand_9 : decode cX6_isSand 9 = .ok (.ifCond .eq 19, 3) := dk_153 0 19 (dk_at dksX6_isSand_0 9 rfl rfl)
theorem dX6_isSand_12 : decode cX6_isSand 12 = .ok (.iload_n 1, 1) := dk_27 (dk_at dksX6_isSand_0 12 rfl rfl)
theorem dX6_isSand_13 : decode cX6_isSand 13 = .ok (.i2l, 1) := dk_133 (dk_at dksX6_isSand_0 13 rfl rfl)
theorem dX6_isSand_14 : decode cX6_isSand 14 = .ok (.lconst 0, 1) := dk_9 (dk_at dksX6_isSand_0 14 rfl rfl)
theorem dX6_isSand_15 : decode cX6_isSand 15 = .ok (.ldc2_w 425, 3) := dk_20 1 169 (dk_at dksX6_isSand_0 15 rfl rfl)
theorem dX6_isSand_18 : decode cX6_isSand 18 = .ok (.invokestatic 52, 3) := dk_184 0 52 (dk_at dksX6_isSand_0 18 rfl rfl)
theorem dX6_isSand_21 : decode cX6_isSand 21 = .ok (.ifCond .eq 7, 3) := dk_153 0 7 (dk_at dksX6_isSand_0 21 rfl rfl)
theorem dX6_isSand_24 : decode cX6_isSand 24 = .ok (.iconst 1, 1) := dk_4 (dk_at dksX6_isSand_1 0 rfl rfl)
theorem dX6_isSand_25 : decode cX6_isSand 25 = .ok (.goto 4, 3) := dk_167 0 4 (dk_at dksX6_isSand_1 1 rfl rfl)
theorem dX6_isSand_28 : decode cX6_isSand 28 = .ok (.iconst 0, 1) := dk_3 (dk_at dksX6_isSand_1 4 rfl rfl)
theorem dX6_isSand_29 : decode cX6_isSand 29 = .ok (.ireturn, 1) := dk_172 (dk_at dksX6_isSand_1 5 rfl rfl)
abbrev cX6_high : ByteArray := prog_16_method_73_code
def yX6_high : MethodName := ⟨RX6, "high", "(III)I"⟩
def dkwX6_high_1 : List UInt8 := [108, 42, 28, 29, 182, 1, 139, 104, 167, 0, 5, 16, 254, 172]
abbrev dktX6_high_1 : List UInt8 := dkwX6_high_1 ++ []
def dkwX6_high_0 : List UInt8 := [27, 133, 10, 20, 1, 182, 184, 0, 52, 153, 0, 26, 28, 29, 184, 1, 179, 153, 0, 18, 27, 4, 96, 5]
abbrev dktX6_high_0 : List UInt8 := dkwX6_high_0 ++ dktX6_high_1
theorem dksX6_high_0 : cX6_high.data.toList.drop 0 = dktX6_high_0 := by decide +kernel
theorem dksX6_high_1 : cX6_high.data.toList.drop 24 = dktX6_high_1 := dk_seg dksX6_high_0 24 rfl rfl
theorem dX6_high_0 : decode cX6_high 0 = .ok (.iload_n 1, 1) := dk_27 (dk_at dksX6_high_0 0 rfl rfl)
theorem dX6_high_1 : decode cX6_high 1 = .ok (.i2l, 1) := dk_133 (dk_at dksX6_high_0 1 rfl rfl)
theorem dX6_high_2 : decode cX6_high 2 = .ok (.lconst 1, 1) := dk_10 (dk_at dksX6_high_0 2 rfl rfl)
theorem dX6_high_3 : decode cX6_high 3 = .ok (.ldc2_w 438, 3) := dk_20 1 182 (dk_at dksX6_high_0 3 rfl rfl)
theorem dX6_high_6 : decode cX6_high 6 = .ok (.invokestatic 52, 3) := dk_184 0 52 (dk_at dksX6_high_0 6 rfl rfl)
theorem dX6_high_9 : decode cX6_high 9 = .ok (.ifCond .eq 26, 3) := dk_153 0 26 (dk_at dksX6_high_0 9 rfl rfl)
theorem dX6_high_12 : decode cX6_high 12 = .ok (.iload_n 2, 1) := dk_28 (dk_at dksX6_high_0 12 rfl rfl)
theorem dX6_high_13 : decode cX6_high 13 = .ok (.iload_n 3, 1) := dk_29 (dk_at dksX6_high_0 13 rfl rfl)
theorem dX6_high_14 : decode cX6_high 14 = .ok (.invokestatic 435, 3) := dk_184 1 179 (dk_at dksX6_high_0 14 rfl rfl)
theorem dX6_high_17 : decode cX6_high 17 = .ok (.ifCond .eq 18, 3) := dk_153 0 18 (dk_at dksX6_high_0 17 rfl rfl)
theorem dX6_high_20 : decode cX6_high 20 = .ok (.iload_n 1, 1) := dk_27 (dk_at dksX6_high_0 20 rfl rfl)
theorem dX6_high_21 : decode cX6_high 21 = .ok (.iconst 1, 1) := dk_4 (dk_at dksX6_high_0 21 rfl rfl)
theorem dX6_high_22 : decode cX6_high 22 = .ok (.iadd, 1) := dk_96 (dk_at dksX6_high_0 22 rfl rfl)
theorem dX6_high_23 : decode cX6_high 23 = .ok (.iconst 2, 1) := dk_5 (dk_at dksX6_high_0 23 rfl rfl)
theorem dX6_high_24 : decode cX6_high 24 = .ok (.idiv, 1) := dk_108 (dk_at dksX6_high_1 0 rfl rfl)
theorem dX6_high_25 : decode cX6_high 25 = .ok (.aload_n 0, 1) := dk_42 (dk_at dksX6_high_1 1 rfl rfl)
theorem dX6_high_26 : decode cX6_high 26 = .ok (.iload_n 2, 1) := dk_28 (dk_at dksX6_high_1 2 rfl rfl)
theorem dX6_high_27 : decode cX6_high 27 = .ok (.iload_n 3, 1) := dk_29 (dk_at dksX6_high_1 3 rfl rfl)
theorem dX6_high_28 : decode cX6_high 28 = .ok (.invokevirtual 395, 3) := dk_182 1 139 (dk_at dksX6_high_1 4 rfl rfl)
theorem dX6_high_31 : decode cX6_high 31 = .ok (.imul, 1) := dk_104 (dk_at dksX6_high_1 7 rfl rfl)
theorem dX6_high_32 : decode cX6_high 32 = .ok (.goto 5, 3) := dk_167 0 5 (dk_at dksX6_high_1 8 rfl rfl)
theorem dX6_high_35 : decode cX6_high 35 = .ok (.bipush (-2), 2) := dk_16 254 (dk_at dksX6_high_1 11 rfl rfl)
theorem dX6_high_37 : decode cX6_high 37 = .ok (.ireturn, 1) := dk_172 (dk_at dksX6_high_1 13 rfl rfl)
abbrev cX6_spill : ByteArray := prog_16_method_74_code
def yX6_spill : MethodName := ⟨RX6, "spill", "(IIII)I"⟩
def dkwX6_spill_9 : List UInt8 := [180, 1, 25, 21, 4, 46, 172]
abbrev dktX6_spill_9 : List UInt8 := dkwX6_spill_9 ++ []
def dkwX6_spill_8 : List UInt8 := [180, 1, 25, 21, 8, 92, 46, 4, 96, 79, 4, 54, 6, 132, 7, 1, 167, 255, 143, 167, 255, 129, 42]
abbrev dktX6_spill_8 : List UInt8 := dkwX6_spill_8 ++ dktX6_spill_9
def dkwX6_spill_7 : List UInt8 := [21, 8, 46, 100, 21, 5, 163, 0, 6, 167, 0, 28, 42, 180, 1, 25, 21, 7, 92, 46, 4, 100, 79, 42]
abbrev dktX6_spill_7 : List UInt8 := dkwX6_spill_7 ++ dktX6_spill_8
def dkwX6_spill_6 : List UInt8 := [21, 7, 4, 96, 167, 0, 7, 21, 7, 4, 100, 54, 8, 42, 180, 1, 25, 21, 7, 46, 42, 180, 1, 25]
abbrev dktX6_spill_6 : List UInt8 := dkwX6_spill_6 ++ dktX6_spill_7
def dkwX6_spill_5 : List UInt8 := [167, 0, 35, 42, 180, 1, 25, 21, 7, 4, 96, 46, 42, 180, 1, 25, 21, 7, 4, 100, 46, 162, 0, 10]
abbrev dktX6_spill_5 : List UInt8 := dkwX6_spill_5 ++ dktX6_spill_6
def dkwX6_spill_4 : List UInt8 := [16, 9, 162, 0, 112, 21, 7, 154, 0, 7, 4, 167, 0, 47, 21, 7, 16, 8, 160, 0, 8, 16, 7]
abbrev dktX6_spill_4 : List UInt8 := dkwX6_spill_4 ++ dktX6_spill_5
def dkwX6_spill_3 : List UInt8 := [79, 132, 6, 1, 167, 255, 228, 4, 54, 6, 21, 6, 153, 0, 128, 3, 54, 6, 3, 54, 7, 21, 7]
abbrev dktX6_spill_3 : List UInt8 := dkwX6_spill_3 ++ dktX6_spill_4
def dkwX6_spill_2 : List UInt8 := [21, 6, 16, 9, 162, 0, 27, 42, 180, 1, 25, 21, 6, 21, 6, 7, 160, 0, 7, 27, 167, 0, 4, 3]
abbrev dktX6_spill_2 : List UInt8 := dkwX6_spill_2 ++ dktX6_spill_3
def dkwX6_spill_1 : List UInt8 := [20, 1, 186, 184, 0, 52, 154, 0, 6, 16, 254, 172, 42, 28, 29, 182, 1, 139, 54, 5, 3, 54, 6]
abbrev dktX6_spill_1 : List UInt8 := dkwX6_spill_1 ++ dktX6_spill_2
def dkwX6_spill_0 : List UInt8 := [27, 133, 9, 20, 1, 184, 184, 0, 52, 153, 0, 24, 28, 29, 184, 1, 179, 153, 0, 16, 21, 4, 133, 9]
abbrev dktX6_spill_0 : List UInt8 := dkwX6_spill_0 ++ dktX6_spill_1
theorem dksX6_spill_0 : cX6_spill.data.toList.drop 0 = dktX6_spill_0 := by decide +kernel
theorem dksX6_spill_1 : cX6_spill.data.toList.drop 24 = dktX6_spill_1 := dk_seg dksX6_spill_0 24 rfl rfl
theorem dksX6_spill_2 : cX6_spill.data.toList.drop 47 = dktX6_spill_2 := dk_seg dksX6_spill_1 23 rfl rfl
theorem dksX6_spill_3 : cX6_spill.data.toList.drop 71 = dktX6_spill_3 := dk_seg dksX6_spill_2 24 rfl rfl
theorem dksX6_spill_4 : cX6_spill.data.toList.drop 94 = dktX6_spill_4 := dk_seg dksX6_spill_3 23 rfl rfl
theorem dksX6_spill_5 : cX6_spill.data.toList.drop 117 = dktX6_spill_5 := dk_seg dksX6_spill_4 23 rfl rfl
theorem dksX6_spill_6 : cX6_spill.data.toList.drop 141 = dktX6_spill_6 := dk_seg dksX6_spill_5 24 rfl rfl
theorem dksX6_spill_7 : cX6_spill.data.toList.drop 165 = dktX6_spill_7 := dk_seg dksX6_spill_6 24 rfl rfl
theorem dksX6_spill_8 : cX6_spill.data.toList.drop 189 = dktX6_spill_8 := dk_seg dksX6_spill_7 24 rfl rfl
theorem dksX6_spill_9 : cX6_spill.data.toList.drop 212 = dktX6_spill_9 := dk_seg dksX6_spill_8 23 rfl rfl
theorem dX6_spill_0 : decode cX6_spill 0 = .ok (.iload_n 1, 1) := dk_27 (dk_at dksX6_spill_0 0 rfl rfl)
theorem dX6_spill_1 : decode cX6_spill 1 = .ok (.i2l, 1) := dk_133 (dk_at dksX6_spill_0 1 rfl rfl)
theorem dX6_spill_2 : decode cX6_spill 2 = .ok (.lconst 0, 1) := dk_9 (dk_at dksX6_spill_0 2 rfl rfl)
theorem dX6_spill_3 : decode cX6_spill 3 = .ok (.ldc2_w 440, 3) := dk_20 1 184 (dk_at dksX6_spill_0 3 rfl rfl)
theorem dX6_spill_6 : decode cX6_spill 6 = .ok (.invokestatic 52, 3) := dk_184 0 52 (dk_at dksX6_spill_0 6 rfl rfl)
theorem dX6_spill_9 : decode cX6_spill 9 = .ok (.ifCond .eq 24, 3) := dk_153 0 24 (dk_at dksX6_spill_0 9 rfl rfl)
theorem dX6_spill_12 : decode cX6_spill 12 = .ok (.iload_n 2, 1) := dk_28 (dk_at dksX6_spill_0 12 rfl rfl)
theorem dX6_spill_13 : decode cX6_spill 13 = .ok (.iload_n 3, 1) := dk_29 (dk_at dksX6_spill_0 13 rfl rfl)
theorem dX6_spill_14 : decode cX6_spill 14 = .ok (.invokestatic 435, 3) := dk_184 1 179 (dk_at dksX6_spill_0 14 rfl rfl)
theorem dX6_spill_17 : decode cX6_spill 17 = .ok (.ifCond .eq 16, 3) := dk_153 0 16 (dk_at dksX6_spill_0 17 rfl rfl)
theorem dX6_spill_20 : decode cX6_spill 20 = .ok (.iload 4, 2) := dk_21 4 (dk_at dksX6_spill_0 20 rfl rfl)
theorem dX6_spill_22 : decode cX6_spill 22 = .ok (.i2l, 1) := dk_133 (dk_at dksX6_spill_0 22 rfl rfl)
theorem dX6_spill_23 : decode cX6_spill 23 = .ok (.lconst 0, 1) := dk_9 (dk_at dksX6_spill_0 23 rfl rfl)
theorem dX6_spill_24 : decode cX6_spill 24 = .ok (.ldc2_w 442, 3) := dk_20 1 186 (dk_at dksX6_spill_1 0 rfl rfl)
theorem dX6_spill_27 : decode cX6_spill 27 = .ok (.invokestatic 52, 3) := dk_184 0 52 (dk_at dksX6_spill_1 3 rfl rfl)
theorem dX6_spill_30 : decode cX6_spill 30 = .ok (.ifCond .ne 6, 3) := dk_154 0 6 (dk_at dksX6_spill_1 6 rfl rfl)
theorem dX6_spill_33 : decode cX6_spill 33 = .ok (.bipush (-2), 2) := dk_16 254 (dk_at dksX6_spill_1 9 rfl rfl)
theorem dX6_spill_35 : decode cX6_spill 35 = .ok (.ireturn, 1) := dk_172 (dk_at dksX6_spill_1 11 rfl rfl)
theorem dX6_spill_36 : decode cX6_spill 36 = .ok (.aload_n 0, 1) := dk_42 (dk_at dksX6_spill_1 12 rfl rfl)
theorem dX6_spill_37 : decode cX6_spill 37 = .ok (.iload_n 2, 1) := dk_28 (dk_at dksX6_spill_1 13 rfl rfl)
theorem dX6_spill_38 : decode cX6_spill 38 = .ok (.iload_n 3, 1) := dk_29 (dk_at dksX6_spill_1 14 rfl rfl)
theorem dX6_spill_39 : decode cX6_spill 39 = .ok (.invokevirtual 395, 3) := dk_182 1 139 (dk_at dksX6_spill_1 15 rfl rfl)
theorem dX6_spill_42 : decode cX6_spill 42 = .ok (.istore 5, 2) := dk_54 5 (dk_at dksX6_spill_1 18 rfl rfl)
theorem dX6_spill_44 : decode cX6_spill 44 = .ok (.iconst 0, 1) := dk_3 (dk_at dksX6_spill_1 20 rfl rfl)
theorem dX6_spill_45 : decode cX6_spill 45 = .ok (.istore 6, 2) := dk_54 6 (dk_at dksX6_spill_1 21 rfl rfl)
theorem dX6_spill_47 : decode cX6_spill 47 = .ok (.iload 6, 2) := dk_21 6 (dk_at dksX6_spill_2 0 rfl rfl)
theorem dX6_spill_49 : decode cX6_spill 49 = .ok (.bipush 9, 2) := dk_16 9 (dk_at dksX6_spill_2 2 rfl rfl)
theorem dX6_spill_51 : decode cX6_spill 51 = .ok (.if_icmp .ge 27, 3) := dk_162 0 27 (dk_at dksX6_spill_2 4 rfl rfl)
theorem dX6_spill_54 : decode cX6_spill 54 = .ok (.aload_n 0, 1) := dk_42 (dk_at dksX6_spill_2 7 rfl rfl)
theorem dX6_spill_55 : decode cX6_spill 55 = .ok (.getfield 281, 3) := dk_180 1 25 (dk_at dksX6_spill_2 8 rfl rfl)
theorem dX6_spill_58 : decode cX6_spill 58 = .ok (.iload 6, 2) := dk_21 6 (dk_at dksX6_spill_2 11 rfl rfl)
theorem dX6_spill_60 : decode cX6_spill 60 = .ok (.iload 6, 2) := dk_21 6 (dk_at dksX6_spill_2 13 rfl rfl)
theorem dX6_spill_62 : decode cX6_spill 62 = .ok (.iconst 4, 1) := dk_7 (dk_at dksX6_spill_2 15 rfl rfl)
theorem dX6_spill_63 : decode cX6_spill 63 = .ok (.if_icmp .ne 7, 3) := dk_160 0 7 (dk_at dksX6_spill_2 16 rfl rfl)
theorem dX6_spill_66 : decode cX6_spill 66 = .ok (.iload_n 1, 1) := dk_27 (dk_at dksX6_spill_2 19 rfl rfl)
theorem dX6_spill_67 : decode cX6_spill 67 = .ok (.goto 4, 3) := dk_167 0 4 (dk_at dksX6_spill_2 20 rfl rfl)
theorem dX6_spill_70 : decode cX6_spill 70 = .ok (.iconst 0, 1) := dk_3 (dk_at dksX6_spill_2 23 rfl rfl)
theorem dX6_spill_71 : decode cX6_spill 71 = .ok (.iastore, 1) := dk_79 (dk_at dksX6_spill_3 0 rfl rfl)
theorem dX6_spill_72 : decode cX6_spill 72 = .ok (.iinc 6 1, 3) := dk_132 6 1 (dk_at dksX6_spill_3 1 rfl rfl)
theorem dX6_spill_75 : decode cX6_spill 75 = .ok (.goto (-28), 3) := dk_167 255 228 (dk_at dksX6_spill_3 4 rfl rfl)
theorem dX6_spill_78 : decode cX6_spill 78 = .ok (.iconst 1, 1) := dk_4 (dk_at dksX6_spill_3 7 rfl rfl)
theorem dX6_spill_79 : decode cX6_spill 79 = .ok (.istore 6, 2) := dk_54 6 (dk_at dksX6_spill_3 8 rfl rfl)
theorem dX6_spill_81 : decode cX6_spill 81 = .ok (.iload 6, 2) := dk_21 6 (dk_at dksX6_spill_3 10 rfl rfl)
theorem dX6_spill_83 : decode cX6_spill 83 = .ok (.ifCond .eq 128, 3) := dk_153 0 128 (dk_at dksX6_spill_3 12 rfl rfl)
theorem dX6_spill_86 : decode cX6_spill 86 = .ok (.iconst 0, 1) := dk_3 (dk_at dksX6_spill_3 15 rfl rfl)
theorem dX6_spill_87 : decode cX6_spill 87 = .ok (.istore 6, 2) := dk_54 6 (dk_at dksX6_spill_3 16 rfl rfl)
theorem dX6_spill_89 : decode cX6_spill 89 = .ok (.iconst 0, 1) := dk_3 (dk_at dksX6_spill_3 18 rfl rfl)
theorem dX6_spill_90 : decode cX6_spill 90 = .ok (.istore 7, 2) := dk_54 7 (dk_at dksX6_spill_3 19 rfl rfl)
theorem dX6_spill_92 : decode cX6_spill 92 = .ok (.iload 7, 2) := dk_21 7 (dk_at dksX6_spill_3 21 rfl rfl)
theorem dX6_spill_94 : decode cX6_spill 94 = .ok (.bipush 9, 2) := dk_16 9 (dk_at dksX6_spill_4 0 rfl rfl)
theorem dX6_spill_96 : decode cX6_spill 96 = .ok (.if_icmp .ge 112, 3) := dk_162 0 112 (dk_at dksX6_spill_4 2 rfl rfl)
theorem dX6_spill_99 : decode cX6_spill 99 = .ok (.iload 7, 2) := dk_21 7 (dk_at dksX6_spill_4 5 rfl rfl)
theorem dX6_spill_101 : decode cX6_spill 101 = .ok (.ifCond .ne 7, 3) := dk_154 0 7 (dk_at dksX6_spill_4 7 rfl rfl)
theorem dX6_spill_104 : decode cX6_spill 104 = .ok (.iconst 1, 1) := dk_4 (dk_at dksX6_spill_4 10 rfl rfl)
theorem dX6_spill_105 : decode cX6_spill 105 = .ok (.goto 47, 3) := dk_167 0 47 (dk_at dksX6_spill_4 11 rfl rfl)
theorem dX6_spill_108 : decode cX6_spill 108 = .ok (.iload 7, 2) := dk_21 7 (dk_at dksX6_spill_4 14 rfl rfl)
theorem dX6_spill_110 : decode cX6_spill 110 = .ok (.bipush 8, 2) := dk_16 8 (dk_at dksX6_spill_4 16 rfl rfl)
theorem dX6_spill_112 : decode cX6_spill 112 = .ok (.if_icmp .ne 8, 3) := dk_160 0 8 (dk_at dksX6_spill_4 18 rfl rfl)
theorem dX6_spill_115 : decode cX6_spill 115 = .ok (.bipush 7, 2) := dk_16 7 (dk_at dksX6_spill_4 21 rfl rfl)
theorem dX6_spill_117 : decode cX6_spill 117 = .ok (.goto 35, 3) := dk_167 0 35 (dk_at dksX6_spill_5 0 rfl rfl)
theorem dX6_spill_120 : decode cX6_spill 120 = .ok (.aload_n 0, 1) := dk_42 (dk_at dksX6_spill_5 3 rfl rfl)
theorem dX6_spill_121 : decode cX6_spill 121 = .ok (.getfield 281, 3) := dk_180 1 25 (dk_at dksX6_spill_5 4 rfl rfl)
theorem dX6_spill_124 : decode cX6_spill 124 = .ok (.iload 7, 2) := dk_21 7 (dk_at dksX6_spill_5 7 rfl rfl)
theorem dX6_spill_126 : decode cX6_spill 126 = .ok (.iconst 1, 1) := dk_4 (dk_at dksX6_spill_5 9 rfl rfl)
theorem dX6_spill_127 : decode cX6_spill 127 = .ok (.iadd, 1) := dk_96 (dk_at dksX6_spill_5 10 rfl rfl)
theorem dX6_spill_128 : decode cX6_spill 128 = .ok (.iaload, 1) := dk_46 (dk_at dksX6_spill_5 11 rfl rfl)
theorem dX6_spill_129 : decode cX6_spill 129 = .ok (.aload_n 0, 1) := dk_42 (dk_at dksX6_spill_5 12 rfl rfl)
theorem dX6_spill_130 : decode cX6_spill 130 = .ok (.getfield 281, 3) := dk_180 1 25 (dk_at dksX6_spill_5 13 rfl rfl)
theorem dX6_spill_133 : decode cX6_spill 133 = .ok (.iload 7, 2) := dk_21 7 (dk_at dksX6_spill_5 16 rfl rfl)
theorem dX6_spill_135 : decode cX6_spill 135 = .ok (.iconst 1, 1) := dk_4 (dk_at dksX6_spill_5 18 rfl rfl)
theorem dX6_spill_136 : decode cX6_spill 136 = .ok (.isub, 1) := dk_100 (dk_at dksX6_spill_5 19 rfl rfl)
theorem dX6_spill_137 : decode cX6_spill 137 = .ok (.iaload, 1) := dk_46 (dk_at dksX6_spill_5 20 rfl rfl)
theorem dX6_spill_138 : decode cX6_spill 138 = .ok (.if_icmp .ge 10, 3) := dk_162 0 10 (dk_at dksX6_spill_5 21 rfl rfl)
theorem dX6_spill_141 : decode cX6_spill 141 = .ok (.iload 7, 2) := dk_21 7 (dk_at dksX6_spill_6 0 rfl rfl)
theorem dX6_spill_143 : decode cX6_spill 143 = .ok (.iconst 1, 1) := dk_4 (dk_at dksX6_spill_6 2 rfl rfl)
theorem dX6_spill_144 : decode cX6_spill 144 = .ok (.iadd, 1) := dk_96 (dk_at dksX6_spill_6 3 rfl rfl)
theorem dX6_spill_145 : decode cX6_spill 145 = .ok (.goto 7, 3) := dk_167 0 7 (dk_at dksX6_spill_6 4 rfl rfl)
theorem dX6_spill_148 : decode cX6_spill 148 = .ok (.iload 7, 2) := dk_21 7 (dk_at dksX6_spill_6 7 rfl rfl)
theorem dX6_spill_150 : decode cX6_spill 150 = .ok (.iconst 1, 1) := dk_4 (dk_at dksX6_spill_6 9 rfl rfl)
theorem dX6_spill_151 : decode cX6_spill 151 = .ok (.isub, 1) := dk_100 (dk_at dksX6_spill_6 10 rfl rfl)
theorem dX6_spill_152 : decode cX6_spill 152 = .ok (.istore 8, 2) := dk_54 8 (dk_at dksX6_spill_6 11 rfl rfl)
theorem dX6_spill_154 : decode cX6_spill 154 = .ok (.aload_n 0, 1) := dk_42 (dk_at dksX6_spill_6 13 rfl rfl)
theorem dX6_spill_155 : decode cX6_spill 155 = .ok (.getfield 281, 3) := dk_180 1 25 (dk_at dksX6_spill_6 14 rfl rfl)
theorem dX6_spill_158 : decode cX6_spill 158 = .ok (.iload 7, 2) := dk_21 7 (dk_at dksX6_spill_6 17 rfl rfl)
theorem dX6_spill_160 : decode cX6_spill 160 = .ok (.iaload, 1) := dk_46 (dk_at dksX6_spill_6 19 rfl rfl)
theorem dX6_spill_161 : decode cX6_spill 161 = .ok (.aload_n 0, 1) := dk_42 (dk_at dksX6_spill_6 20 rfl rfl)
theorem dX6_spill_162 : decode cX6_spill 162 = .ok (.getfield 281, 3) := dk_180 1 25 (dk_at dksX6_spill_6 21 rfl rfl)
theorem dX6_spill_165 : decode cX6_spill 165 = .ok (.iload 8, 2) := dk_21 8 (dk_at dksX6_spill_7 0 rfl rfl)
theorem dX6_spill_167 : decode cX6_spill 167 = .ok (.iaload, 1) := dk_46 (dk_at dksX6_spill_7 2 rfl rfl)
theorem dX6_spill_168 : decode cX6_spill 168 = .ok (.isub, 1) := dk_100 (dk_at dksX6_spill_7 3 rfl rfl)
theorem dX6_spill_169 : decode cX6_spill 169 = .ok (.iload 5, 2) := dk_21 5 (dk_at dksX6_spill_7 4 rfl rfl)
theorem dX6_spill_171 : decode cX6_spill 171 = .ok (.if_icmp .gt 6, 3) := dk_163 0 6 (dk_at dksX6_spill_7 6 rfl rfl)
theorem dX6_spill_174 : decode cX6_spill 174 = .ok (.goto 28, 3) := dk_167 0 28 (dk_at dksX6_spill_7 9 rfl rfl)
theorem dX6_spill_177 : decode cX6_spill 177 = .ok (.aload_n 0, 1) := dk_42 (dk_at dksX6_spill_7 12 rfl rfl)
theorem dX6_spill_178 : decode cX6_spill 178 = .ok (.getfield 281, 3) := dk_180 1 25 (dk_at dksX6_spill_7 13 rfl rfl)
theorem dX6_spill_181 : decode cX6_spill 181 = .ok (.iload 7, 2) := dk_21 7 (dk_at dksX6_spill_7 16 rfl rfl)
theorem dX6_spill_183 : decode cX6_spill 183 = .ok (.dup2, 1) := dk_92 (dk_at dksX6_spill_7 18 rfl rfl)
theorem dX6_spill_184 : decode cX6_spill 184 = .ok (.iaload, 1) := dk_46 (dk_at dksX6_spill_7 19 rfl rfl)
theorem dX6_spill_185 : decode cX6_spill 185 = .ok (.iconst 1, 1) := dk_4 (dk_at dksX6_spill_7 20 rfl rfl)
theorem dX6_spill_186 : decode cX6_spill 186 = .ok (.isub, 1) := dk_100 (dk_at dksX6_spill_7 21 rfl rfl)
theorem dX6_spill_187 : decode cX6_spill 187 = .ok (.iastore, 1) := dk_79 (dk_at dksX6_spill_7 22 rfl rfl)
theorem dX6_spill_188 : decode cX6_spill 188 = .ok (.aload_n 0, 1) := dk_42 (dk_at dksX6_spill_7 23 rfl rfl)
theorem dX6_spill_189 : decode cX6_spill 189 = .ok (.getfield 281, 3) := dk_180 1 25 (dk_at dksX6_spill_8 0 rfl rfl)
theorem dX6_spill_192 : decode cX6_spill 192 = .ok (.iload 8, 2) := dk_21 8 (dk_at dksX6_spill_8 3 rfl rfl)
theorem dX6_spill_194 : decode cX6_spill 194 = .ok (.dup2, 1) := dk_92 (dk_at dksX6_spill_8 5 rfl rfl)
theorem dX6_spill_195 : decode cX6_spill 195 = .ok (.iaload, 1) := dk_46 (dk_at dksX6_spill_8 6 rfl rfl)
theorem dX6_spill_196 : decode cX6_spill 196 = .ok (.iconst 1, 1) := dk_4 (dk_at dksX6_spill_8 7 rfl rfl)
theorem dX6_spill_197 : decode cX6_spill 197 = .ok (.iadd, 1) := dk_96 (dk_at dksX6_spill_8 8 rfl rfl)
theorem dX6_spill_198 : decode cX6_spill 198 = .ok (.iastore, 1) := dk_79 (dk_at dksX6_spill_8 9 rfl rfl)
theorem dX6_spill_199 : decode cX6_spill 199 = .ok (.iconst 1, 1) := dk_4 (dk_at dksX6_spill_8 10 rfl rfl)
theorem dX6_spill_200 : decode cX6_spill 200 = .ok (.istore 6, 2) := dk_54 6 (dk_at dksX6_spill_8 11 rfl rfl)
theorem dX6_spill_202 : decode cX6_spill 202 = .ok (.iinc 7 1, 3) := dk_132 7 1 (dk_at dksX6_spill_8 13 rfl rfl)
theorem dX6_spill_205 : decode cX6_spill 205 = .ok (.goto (-113), 3) := dk_167 255 143 (dk_at dksX6_spill_8 16 rfl rfl)
theorem dX6_spill_208 : decode cX6_spill 208 = .ok (.goto (-127), 3) := dk_167 255 129 (dk_at dksX6_spill_8 19 rfl rfl)
theorem dX6_spill_211 : decode cX6_spill 211 = .ok (.aload_n 0, 1) := dk_42 (dk_at dksX6_spill_8 22 rfl rfl)
theorem dX6_spill_212 : decode cX6_spill 212 = .ok (.getfield 281, 3) := dk_180 1 25 (dk_at dksX6_spill_9 0 rfl rfl)
theorem dX6_spill_215 : decode cX6_spill 215 = .ok (.iload 4, 2) := dk_21 4 (dk_at dksX6_spill_9 3 rfl rfl)
theorem dX6_spill_217 : decode cX6_spill 217 = .ok (.iaload, 1) := dk_46 (dk_at dksX6_spill_9 5 rfl rfl)
theorem dX6_spill_218 : decode cX6_spill 218 = .ok (.ireturn, 1) := dk_172 (dk_at dksX6_spill_9 6 rfl rfl)
abbrev cX6_trial : ByteArray := prog_16_method_76_code
def yX6_trial : MethodName := ⟨RX6, "trial", "(IIII)I"⟩
def dkwX6_trial_5 : List UInt8 := [100, 172]
abbrev dktX6_trial_5 : List UInt8 := dkwX6_trial_5 ++ []
def dkwX6_trial_4 : List UInt8 := [180, 1, 37, 42, 180, 1, 200, 27, 79, 42, 89, 180, 1, 200, 4, 96, 181, 1, 200, 42, 180, 1, 200, 4]
abbrev dktX6_trial_4 : List UInt8 := dkwX6_trial_4 ++ dktX6_trial_5
def dkwX6_trial_3 : List UInt8 := [28, 79, 42, 180, 1, 31, 42, 180, 1, 200, 29, 79, 42, 180, 1, 34, 42, 180, 1, 200, 21, 4, 79, 42]
abbrev dktX6_trial_3 : List UInt8 := dkwX6_trial_3 ++ dktX6_trial_4
def dkwX6_trial_2 : List UInt8 := [180, 1, 200, 16, 16, 160, 0, 6, 16, 253, 172, 42, 27, 181, 1, 188, 42, 180, 1, 28, 42, 180, 1, 200]
abbrev dktX6_trial_2 : List UInt8 := dkwX6_trial_2 ++ dktX6_trial_3
def dkwX6_trial_1 : List UInt8 := [20, 1, 198, 184, 0, 52, 153, 0, 14, 21, 4, 133, 9, 10, 184, 0, 52, 154, 0, 6, 16, 254, 172, 42]
abbrev dktX6_trial_1 : List UInt8 := dkwX6_trial_1 ++ dktX6_trial_2
def dkwX6_trial_0 : List UInt8 := [42, 27, 182, 1, 193, 153, 0, 38, 28, 133, 10, 20, 1, 196, 184, 0, 52, 153, 0, 26, 29, 133, 10]
abbrev dktX6_trial_0 : List UInt8 := dkwX6_trial_0 ++ dktX6_trial_1
theorem dksX6_trial_0 : cX6_trial.data.toList.drop 0 = dktX6_trial_0 := by decide +kernel
theorem dksX6_trial_1 : cX6_trial.data.toList.drop 23 = dktX6_trial_1 := dk_seg dksX6_trial_0 23 rfl rfl
theorem dksX6_trial_2 : cX6_trial.data.toList.drop 47 = dktX6_trial_2 := dk_seg dksX6_trial_1 24 rfl rfl
theorem dksX6_trial_3 : cX6_trial.data.toList.drop 71 = dktX6_trial_3 := dk_seg dksX6_trial_2 24 rfl rfl
theorem dksX6_trial_4 : cX6_trial.data.toList.drop 95 = dktX6_trial_4 := dk_seg dksX6_trial_3 24 rfl rfl
theorem dksX6_trial_5 : cX6_trial.data.toList.drop 119 = dktX6_trial_5 := dk_seg dksX6_trial_4 24 rfl rfl
theorem dX6_trial_0 : decode cX6_trial 0 = .ok (.aload_n 0, 1) := dk_42 (dk_at dksX6_trial_0 0 rfl rfl)
theorem dX6_trial_1 : decode cX6_trial 1 = .ok (.iload_n 1, 1) := dk_27 (dk_at dksX6_trial_0 1 rfl rfl)
theorem dX6_trial_2 : decode cX6_trial 2 = .ok (.invokevirtual 449, 3) := dk_182 1 193 (dk_at dksX6_trial_0 2 rfl rfl)
theorem dX6_trial_5 : decode cX6_trial 5 = .ok (.ifCond .eq 38, 3) := dk_153 0 38 (dk_at dksX6_trial_0 5 rfl rfl)
theorem dX6_trial_8 : decode cX6_trial 8 = .ok (.iload_n 2, 1) := dk_28 (dk_at dksX6_trial_0 8 rfl rfl)
theorem dX6_trial_9 : decode cX6_trial 9 = .ok (.i2l, 1) := dk_133 (dk_at dksX6_trial_0 9 rfl rfl)
theorem dX6_trial_10 : decode cX6_trial 10 = .ok (.lconst 1, 1) := dk_10 (dk_at dksX6_trial_0 10 rfl rfl)
theorem dX6_trial_11 : decode cX6_trial 11 = .ok (.ldc2_w 452, 3) := dk_20 1 196 (dk_at dksX6_trial_0 11 rfl rfl)
theorem dX6_trial_14 : decode cX6_trial 14 = .ok (.invokestatic 52, 3) := dk_184 0 52 (dk_at dksX6_trial_0 14 rfl rfl)
theorem dX6_trial_17 : decode cX6_trial 17 = .ok (.ifCond .eq 26, 3) := dk_153 0 26 (dk_at dksX6_trial_0 17 rfl rfl)
theorem dX6_trial_20 : decode cX6_trial 20 = .ok (.iload_n 3, 1) := dk_29 (dk_at dksX6_trial_0 20 rfl rfl)
theorem dX6_trial_21 : decode cX6_trial 21 = .ok (.i2l, 1) := dk_133 (dk_at dksX6_trial_0 21 rfl rfl)
theorem dX6_trial_22 : decode cX6_trial 22 = .ok (.lconst 1, 1) := dk_10 (dk_at dksX6_trial_0 22 rfl rfl)
theorem dX6_trial_23 : decode cX6_trial 23 = .ok (.ldc2_w 454, 3) := dk_20 1 198 (dk_at dksX6_trial_1 0 rfl rfl)
theorem dX6_trial_26 : decode cX6_trial 26 = .ok (.invokestatic 52, 3) := dk_184 0 52 (dk_at dksX6_trial_1 3 rfl rfl)
theorem dX6_trial_29 : decode cX6_trial 29 = .ok (.ifCond .eq 14, 3) := dk_153 0 14 (dk_at dksX6_trial_1 6 rfl rfl)
theorem dX6_trial_32 : decode cX6_trial 32 = .ok (.iload 4, 2) := dk_21 4 (dk_at dksX6_trial_1 9 rfl rfl)
theorem dX6_trial_34 : decode cX6_trial 34 = .ok (.i2l, 1) := dk_133 (dk_at dksX6_trial_1 11 rfl rfl)
theorem dX6_trial_35 : decode cX6_trial 35 = .ok (.lconst 0, 1) := dk_9 (dk_at dksX6_trial_1 12 rfl rfl)
theorem dX6_trial_36 : decode cX6_trial 36 = .ok (.lconst 1, 1) := dk_10 (dk_at dksX6_trial_1 13 rfl rfl)
theorem dX6_trial_37 : decode cX6_trial 37 = .ok (.invokestatic 52, 3) := dk_184 0 52 (dk_at dksX6_trial_1 14 rfl rfl)
theorem dX6_trial_40 : decode cX6_trial 40 = .ok (.ifCond .ne 6, 3) := dk_154 0 6 (dk_at dksX6_trial_1 17 rfl rfl)
theorem dX6_trial_43 : decode cX6_trial 43 = .ok (.bipush (-2), 2) := dk_16 254 (dk_at dksX6_trial_1 20 rfl rfl)
theorem dX6_trial_45 : decode cX6_trial 45 = .ok (.ireturn, 1) := dk_172 (dk_at dksX6_trial_1 22 rfl rfl)
theorem dX6_trial_46 : decode cX6_trial 46 = .ok (.aload_n 0, 1) := dk_42 (dk_at dksX6_trial_1 23 rfl rfl)
theorem dX6_trial_47 : decode cX6_trial 47 = .ok (.getfield 456, 3) := dk_180 1 200 (dk_at dksX6_trial_2 0 rfl rfl)
theorem dX6_trial_50 : decode cX6_trial 50 = .ok (.bipush 16, 2) := dk_16 16 (dk_at dksX6_trial_2 3 rfl rfl)
theorem dX6_trial_52 : decode cX6_trial 52 = .ok (.if_icmp .ne 6, 3) := dk_160 0 6 (dk_at dksX6_trial_2 5 rfl rfl)
theorem dX6_trial_55 : decode cX6_trial 55 = .ok (.bipush (-3), 2) := dk_16 253 (dk_at dksX6_trial_2 8 rfl rfl)
theorem dX6_trial_57 : decode cX6_trial 57 = .ok (.ireturn, 1) := dk_172 (dk_at dksX6_trial_2 10 rfl rfl)
theorem dX6_trial_58 : decode cX6_trial 58 = .ok (.aload_n 0, 1) := dk_42 (dk_at dksX6_trial_2 11 rfl rfl)
theorem dX6_trial_59 : decode cX6_trial 59 = .ok (.iload_n 1, 1) := dk_27 (dk_at dksX6_trial_2 12 rfl rfl)
theorem dX6_trial_60 : decode cX6_trial 60 = .ok (.putfield 444, 3) := dk_181 1 188 (dk_at dksX6_trial_2 13 rfl rfl)
theorem dX6_trial_63 : decode cX6_trial 63 = .ok (.aload_n 0, 1) := dk_42 (dk_at dksX6_trial_2 16 rfl rfl)
theorem dX6_trial_64 : decode cX6_trial 64 = .ok (.getfield 284, 3) := dk_180 1 28 (dk_at dksX6_trial_2 17 rfl rfl)
theorem dX6_trial_67 : decode cX6_trial 67 = .ok (.aload_n 0, 1) := dk_42 (dk_at dksX6_trial_2 20 rfl rfl)
theorem dX6_trial_68 : decode cX6_trial 68 = .ok (.getfield 456, 3) := dk_180 1 200 (dk_at dksX6_trial_2 21 rfl rfl)
theorem dX6_trial_71 : decode cX6_trial 71 = .ok (.iload_n 2, 1) := dk_28 (dk_at dksX6_trial_3 0 rfl rfl)
theorem dX6_trial_72 : decode cX6_trial 72 = .ok (.iastore, 1) := dk_79 (dk_at dksX6_trial_3 1 rfl rfl)
theorem dX6_trial_73 : decode cX6_trial 73 = .ok (.aload_n 0, 1) := dk_42 (dk_at dksX6_trial_3 2 rfl rfl)
theorem dX6_trial_74 : decode cX6_trial 74 = .ok (.getfield 287, 3) := dk_180 1 31 (dk_at dksX6_trial_3 3 rfl rfl)
theorem dX6_trial_77 : decode cX6_trial 77 = .ok (.aload_n 0, 1) := dk_42 (dk_at dksX6_trial_3 6 rfl rfl)
theorem dX6_trial_78 : decode cX6_trial 78 = .ok (.getfield 456, 3) := dk_180 1 200 (dk_at dksX6_trial_3 7 rfl rfl)
theorem dX6_trial_81 : decode cX6_trial 81 = .ok (.iload_n 3, 1) := dk_29 (dk_at dksX6_trial_3 10 rfl rfl)
theorem dX6_trial_82 : decode cX6_trial 82 = .ok (.iastore, 1) := dk_79 (dk_at dksX6_trial_3 11 rfl rfl)
theorem dX6_trial_83 : decode cX6_trial 83 = .ok (.aload_n 0, 1) := dk_42 (dk_at dksX6_trial_3 12 rfl rfl)
theorem dX6_trial_84 : decode cX6_trial 84 = .ok (.getfield 290, 3) := dk_180 1 34 (dk_at dksX6_trial_3 13 rfl rfl)
theorem dX6_trial_87 : decode cX6_trial 87 = .ok (.aload_n 0, 1) := dk_42 (dk_at dksX6_trial_3 16 rfl rfl)
theorem dX6_trial_88 : decode cX6_trial 88 = .ok (.getfield 456, 3) := dk_180 1 200 (dk_at dksX6_trial_3 17 rfl rfl)
theorem dX6_trial_91 : decode cX6_trial 91 = .ok (.iload 4, 2) := dk_21 4 (dk_at dksX6_trial_3 20 rfl rfl)
theorem dX6_trial_93 : decode cX6_trial 93 = .ok (.iastore, 1) := dk_79 (dk_at dksX6_trial_3 22 rfl rfl)
theorem dX6_trial_94 : decode cX6_trial 94 = .ok (.aload_n 0, 1) := dk_42 (dk_at dksX6_trial_3 23 rfl rfl)
theorem dX6_trial_95 : decode cX6_trial 95 = .ok (.getfield 293, 3) := dk_180 1 37 (dk_at dksX6_trial_4 0 rfl rfl)
theorem dX6_trial_98 : decode cX6_trial 98 = .ok (.aload_n 0, 1) := dk_42 (dk_at dksX6_trial_4 3 rfl rfl)
theorem dX6_trial_99 : decode cX6_trial 99 = .ok (.getfield 456, 3) := dk_180 1 200 (dk_at dksX6_trial_4 4 rfl rfl)
theorem dX6_trial_102 : decode cX6_trial 102 = .ok (.iload_n 1, 1) := dk_27 (dk_at dksX6_trial_4 7 rfl rfl)
theorem dX6_trial_103 : decode cX6_trial 103 = .ok (.iastore, 1) := dk_79 (dk_at dksX6_trial_4 8 rfl rfl)
theorem dX6_trial_104 : decode cX6_trial 104 = .ok (.aload_n 0, 1) := dk_42 (dk_at dksX6_trial_4 9 rfl rfl)
theorem dX6_trial_105 : decode cX6_trial 105 = .ok (.dup, 1) := dk_89 (dk_at dksX6_trial_4 10 rfl rfl)
theorem dX6_trial_106 : decode cX6_trial 106 = .ok (.getfield 456, 3) := dk_180 1 200 (dk_at dksX6_trial_4 11 rfl rfl)
theorem dX6_trial_109 : decode cX6_trial 109 = .ok (.iconst 1, 1) := dk_4 (dk_at dksX6_trial_4 14 rfl rfl)
theorem dX6_trial_110 : decode cX6_trial 110 = .ok (.iadd, 1) := dk_96 (dk_at dksX6_trial_4 15 rfl rfl)
theorem dX6_trial_111 : decode cX6_trial 111 = .ok (.putfield 456, 3) := dk_181 1 200 (dk_at dksX6_trial_4 16 rfl rfl)
theorem dX6_trial_114 : decode cX6_trial 114 = .ok (.aload_n 0, 1) := dk_42 (dk_at dksX6_trial_4 19 rfl rfl)
theorem dX6_trial_115 : decode cX6_trial 115 = .ok (.getfield 456, 3) := dk_180 1 200 (dk_at dksX6_trial_4 20 rfl rfl)
theorem dX6_trial_118 : decode cX6_trial 118 = .ok (.iconst 1, 1) := dk_4 (dk_at dksX6_trial_4 23 rfl rfl)
theorem dX6_trial_119 : decode cX6_trial 119 = .ok (.isub, 1) := dk_100 (dk_at dksX6_trial_5 0 rfl rfl)
theorem dX6_trial_120 : decode cX6_trial 120 = .ok (.ireturn, 1) := dk_172 (dk_at dksX6_trial_5 1 rfl rfl)
abbrev cX6_isTelling : ByteArray := prog_16_method_75_code
def yX6_isTelling : MethodName := ⟨RX6, "isTelling", "(I)Z"⟩
def dkwX6_isTelling_0 : List UInt8 := [27, 133, 42, 180, 1, 188, 133, 20, 1, 191, 184, 0, 52, 172]
abbrev dktX6_isTelling_0 : List UInt8 := dkwX6_isTelling_0 ++ []
theorem dksX6_isTelling_0 : cX6_isTelling.data.toList.drop 0 = dktX6_isTelling_0 := by decide +kernel
theorem dX6_isTelling_0 : decode cX6_isTelling 0 = .ok (.iload_n 1, 1) := dk_27 (dk_at dksX6_isTelling_0 0 rfl rfl)
theorem dX6_isTelling_1 : decode cX6_isTelling 1 = .ok (.i2l, 1) := dk_133 (dk_at dksX6_isTelling_0 1 rfl rfl)
theorem dX6_isTelling_2 : decode cX6_isTelling 2 = .ok (.aload_n 0, 1) := dk_42 (dk_at dksX6_isTelling_0 2 rfl rfl)
theorem dX6_isTelling_3 : decode cX6_isTelling 3 = .ok (.getfield 444, 3) := dk_180 1 188 (dk_at dksX6_isTelling_0 3 rfl rfl)
theorem dX6_isTelling_6 : decode cX6_isTelling 6 = .ok (.i2l, 1) := dk_133 (dk_at dksX6_isTelling_0 6 rfl rfl)
theorem dX6_isTelling_7 : decode cX6_isTelling 7 = .ok (.ldc2_w 447, 3) := dk_20 1 191 (dk_at dksX6_isTelling_0 7 rfl rfl)
theorem dX6_isTelling_10 : decode cX6_isTelling 10 = .ok (.invokestatic 52, 3) := dk_184 0 52 (dk_at dksX6_isTelling_0 10 rfl rfl)
theorem dX6_isTelling_13 : decode cX6_isTelling 13 = .ok (.ireturn, 1) := dk_172 (dk_at dksX6_isTelling_0 13 rfl rfl)
abbrev cX6_right : ByteArray := prog_16_method_77_code
def yX6_right : MethodName := ⟨RX6, "right", "(III)I"⟩
def dkwX6_right_5 : List UInt8 := [160, 0, 7, 4, 167, 0, 4, 3, 96, 54, 4, 132, 5, 1, 167, 255, 223, 21, 4, 172]
abbrev dktX6_right_5 : List UInt8 := dkwX6_right_5 ++ []
def dkwX6_right_4 : List UInt8 := [54, 4, 3, 54, 5, 21, 5, 42, 180, 1, 203, 162, 0, 30, 21, 4, 42, 180, 1, 40, 21, 5, 46, 28]
abbrev dktX6_right_4 : List UInt8 := dkwX6_right_4 ++ dktX6_right_5
def dkwX6_right_3 : List UInt8 := [29, 79, 42, 180, 1, 46, 42, 180, 1, 203, 27, 79, 42, 89, 180, 1, 203, 4, 96, 181, 1, 203, 3]
abbrev dktX6_right_3 : List UInt8 := dkwX6_right_3 ++ dktX6_right_4
def dkwX6_right_2 : List UInt8 := [172, 42, 27, 181, 1, 188, 42, 180, 1, 40, 42, 180, 1, 203, 28, 79, 42, 180, 1, 43, 42, 180, 1, 203]
abbrev dktX6_right_2 : List UInt8 := dkwX6_right_2 ++ dktX6_right_3
def dkwX6_right_1 : List UInt8 := [29, 133, 9, 10, 184, 0, 52, 154, 0, 6, 16, 254, 172, 42, 180, 1, 203, 16, 20, 160, 0, 6, 16, 253]
abbrev dktX6_right_1 : List UInt8 := dkwX6_right_1 ++ dktX6_right_2
def dkwX6_right_0 : List UInt8 := [42, 27, 182, 1, 193, 153, 0, 29, 28, 133, 9, 42, 180, 1, 200, 133, 10, 101, 184, 0, 52, 153, 0, 13]
abbrev dktX6_right_0 : List UInt8 := dkwX6_right_0 ++ dktX6_right_1
theorem dksX6_right_0 : cX6_right.data.toList.drop 0 = dktX6_right_0 := by decide +kernel
theorem dksX6_right_1 : cX6_right.data.toList.drop 24 = dktX6_right_1 := dk_seg dksX6_right_0 24 rfl rfl
theorem dksX6_right_2 : cX6_right.data.toList.drop 48 = dktX6_right_2 := dk_seg dksX6_right_1 24 rfl rfl
theorem dksX6_right_3 : cX6_right.data.toList.drop 72 = dktX6_right_3 := dk_seg dksX6_right_2 24 rfl rfl
theorem dksX6_right_4 : cX6_right.data.toList.drop 95 = dktX6_right_4 := dk_seg dksX6_right_3 23 rfl rfl
theorem dksX6_right_5 : cX6_right.data.toList.drop 119 = dktX6_right_5 := dk_seg dksX6_right_4 24 rfl rfl
theorem dX6_right_0 : decode cX6_right 0 = .ok (.aload_n 0, 1) := dk_42 (dk_at dksX6_right_0 0 rfl rfl)
theorem dX6_right_1 : decode cX6_right 1 = .ok (.iload_n 1, 1) := dk_27 (dk_at dksX6_right_0 1 rfl rfl)
theorem dX6_right_2 : decode cX6_right 2 = .ok (.invokevirtual 449, 3) := dk_182 1 193 (dk_at dksX6_right_0 2 rfl rfl)
theorem dX6_right_5 : decode cX6_right 5 = .ok (.ifCond .eq 29, 3) := dk_153 0 29 (dk_at dksX6_right_0 5 rfl rfl)
theorem dX6_right_8 : decode cX6_right 8 = .ok (.iload_n 2, 1) := dk_28 (dk_at dksX6_right_0 8 rfl rfl)
theorem dX6_right_9 : decode cX6_right 9 = .ok (.i2l, 1) := dk_133 (dk_at dksX6_right_0 9 rfl rfl)
theorem dX6_right_10 : decode cX6_right 10 = .ok (.lconst 0, 1) := dk_9 (dk_at dksX6_right_0 10 rfl rfl)
theorem dX6_right_11 : decode cX6_right 11 = .ok (.aload_n 0, 1) := dk_42 (dk_at dksX6_right_0 11 rfl rfl)
theorem dX6_right_12 : decode cX6_right 12 = .ok (.getfield 456, 3) := dk_180 1 200 (dk_at dksX6_right_0 12 rfl rfl)
theorem dX6_right_15 : decode cX6_right 15 = .ok (.i2l, 1) := dk_133 (dk_at dksX6_right_0 15 rfl rfl)
theorem dX6_right_16 : decode cX6_right 16 = .ok (.lconst 1, 1) := dk_10 (dk_at dksX6_right_0 16 rfl rfl)
theorem dX6_right_17 : decode cX6_right 17 = .ok (.lsub, 1) := dk_101 (dk_at dksX6_right_0 17 rfl rfl)
theorem dX6_right_18 : decode cX6_right 18 = .ok (.invokestatic 52, 3) := dk_184 0 52 (dk_at dksX6_right_0 18 rfl rfl)
theorem dX6_right_21 : decode cX6_right 21 = .ok (.ifCond .eq 13, 3) := dk_153 0 13 (dk_at dksX6_right_0 21 rfl rfl)
theorem dX6_right_24 : decode cX6_right 24 = .ok (.iload_n 3, 1) := dk_29 (dk_at dksX6_right_1 0 rfl rfl)
theorem dX6_right_25 : decode cX6_right 25 = .ok (.i2l, 1) := dk_133 (dk_at dksX6_right_1 1 rfl rfl)
theorem dX6_right_26 : decode cX6_right 26 = .ok (.lconst 0, 1) := dk_9 (dk_at dksX6_right_1 2 rfl rfl)
theorem dX6_right_27 : decode cX6_right 27 = .ok (.lconst 1, 1) := dk_10 (dk_at dksX6_right_1 3 rfl rfl)
theorem dX6_right_28 : decode cX6_right 28 = .ok (.invokestatic 52, 3) := dk_184 0 52 (dk_at dksX6_right_1 4 rfl rfl)
theorem dX6_right_31 : decode cX6_right 31 = .ok (.ifCond .ne 6, 3) := dk_154 0 6 (dk_at dksX6_right_1 7 rfl rfl)
theorem dX6_right_34 : decode cX6_right 34 = .ok (.bipush (-2), 2) := dk_16 254 (dk_at dksX6_right_1 10 rfl rfl)
theorem dX6_right_36 : decode cX6_right 36 = .ok (.ireturn, 1) := dk_172 (dk_at dksX6_right_1 12 rfl rfl)
theorem dX6_right_37 : decode cX6_right 37 = .ok (.aload_n 0, 1) := dk_42 (dk_at dksX6_right_1 13 rfl rfl)
theorem dX6_right_38 : decode cX6_right 38 = .ok (.getfield 459, 3) := dk_180 1 203 (dk_at dksX6_right_1 14 rfl rfl)
theorem dX6_right_41 : decode cX6_right 41 = .ok (.bipush 20, 2) := dk_16 20 (dk_at dksX6_right_1 17 rfl rfl)
theorem dX6_right_43 : decode cX6_right 43 = .ok (.if_icmp .ne 6, 3) := dk_160 0 6 (dk_at dksX6_right_1 19 rfl rfl)
theorem dX6_right_46 : decode cX6_right 46 = .ok (.bipush (-3), 2) := dk_16 253 (dk_at dksX6_right_1 22 rfl rfl)
theorem dX6_right_48 : decode cX6_right 48 = .ok (.ireturn, 1) := dk_172 (dk_at dksX6_right_2 0 rfl rfl)
theorem dX6_right_49 : decode cX6_right 49 = .ok (.aload_n 0, 1) := dk_42 (dk_at dksX6_right_2 1 rfl rfl)
theorem dX6_right_50 : decode cX6_right 50 = .ok (.iload_n 1, 1) := dk_27 (dk_at dksX6_right_2 2 rfl rfl)
theorem dX6_right_51 : decode cX6_right 51 = .ok (.putfield 444, 3) := dk_181 1 188 (dk_at dksX6_right_2 3 rfl rfl)
theorem dX6_right_54 : decode cX6_right 54 = .ok (.aload_n 0, 1) := dk_42 (dk_at dksX6_right_2 6 rfl rfl)
theorem dX6_right_55 : decode cX6_right 55 = .ok (.getfield 296, 3) := dk_180 1 40 (dk_at dksX6_right_2 7 rfl rfl)
theorem dX6_right_58 : decode cX6_right 58 = .ok (.aload_n 0, 1) := dk_42 (dk_at dksX6_right_2 10 rfl rfl)
theorem dX6_right_59 : decode cX6_right 59 = .ok (.getfield 459, 3) := dk_180 1 203 (dk_at dksX6_right_2 11 rfl rfl)
theorem dX6_right_62 : decode cX6_right 62 = .ok (.iload_n 2, 1) := dk_28 (dk_at dksX6_right_2 14 rfl rfl)
theorem dX6_right_63 : decode cX6_right 63 = .ok (.iastore, 1) := dk_79 (dk_at dksX6_right_2 15 rfl rfl)
theorem dX6_right_64 : decode cX6_right 64 = .ok (.aload_n 0, 1) := dk_42 (dk_at dksX6_right_2 16 rfl rfl)
theorem dX6_right_65 : decode cX6_right 65 = .ok (.getfield 299, 3) := dk_180 1 43 (dk_at dksX6_right_2 17 rfl rfl)
theorem dX6_right_68 : decode cX6_right 68 = .ok (.aload_n 0, 1) := dk_42 (dk_at dksX6_right_2 20 rfl rfl)
theorem dX6_right_69 : decode cX6_right 69 = .ok (.getfield 459, 3) := dk_180 1 203 (dk_at dksX6_right_2 21 rfl rfl)
theorem dX6_right_72 : decode cX6_right 72 = .ok (.iload_n 3, 1) := dk_29 (dk_at dksX6_right_3 0 rfl rfl)
theorem dX6_right_73 : decode cX6_right 73 = .ok (.iastore, 1) := dk_79 (dk_at dksX6_right_3 1 rfl rfl)
theorem dX6_right_74 : decode cX6_right 74 = .ok (.aload_n 0, 1) := dk_42 (dk_at dksX6_right_3 2 rfl rfl)
theorem dX6_right_75 : decode cX6_right 75 = .ok (.getfield 302, 3) := dk_180 1 46 (dk_at dksX6_right_3 3 rfl rfl)
theorem dX6_right_78 : decode cX6_right 78 = .ok (.aload_n 0, 1) := dk_42 (dk_at dksX6_right_3 6 rfl rfl)
theorem dX6_right_79 : decode cX6_right 79 = .ok (.getfield 459, 3) := dk_180 1 203 (dk_at dksX6_right_3 7 rfl rfl)
theorem dX6_right_82 : decode cX6_right 82 = .ok (.iload_n 1, 1) := dk_27 (dk_at dksX6_right_3 10 rfl rfl)
theorem dX6_right_83 : decode cX6_right 83 = .ok (.iastore, 1) := dk_79 (dk_at dksX6_right_3 11 rfl rfl)
theorem dX6_right_84 : decode cX6_right 84 = .ok (.aload_n 0, 1) := dk_42 (dk_at dksX6_right_3 12 rfl rfl)
theorem dX6_right_85 : decode cX6_right 85 = .ok (.dup, 1) := dk_89 (dk_at dksX6_right_3 13 rfl rfl)
theorem dX6_right_86 : decode cX6_right 86 = .ok (.getfield 459, 3) := dk_180 1 203 (dk_at dksX6_right_3 14 rfl rfl)
theorem dX6_right_89 : decode cX6_right 89 = .ok (.iconst 1, 1) := dk_4 (dk_at dksX6_right_3 17 rfl rfl)
theorem dX6_right_90 : decode cX6_right 90 = .ok (.iadd, 1) := dk_96 (dk_at dksX6_right_3 18 rfl rfl)
theorem dX6_right_91 : decode cX6_right 91 = .ok (.putfield 459, 3) := dk_181 1 203 (dk_at dksX6_right_3 19 rfl rfl)
theorem dX6_right_94 : decode cX6_right 94 = .ok (.iconst 0, 1) := dk_3 (dk_at dksX6_right_3 22 rfl rfl)
theorem dX6_right_95 : decode cX6_right 95 = .ok (.istore 4, 2) := dk_54 4 (dk_at dksX6_right_4 0 rfl rfl)
theorem dX6_right_97 : decode cX6_right 97 = .ok (.iconst 0, 1) := dk_3 (dk_at dksX6_right_4 2 rfl rfl)
theorem dX6_right_98 : decode cX6_right 98 = .ok (.istore 5, 2) := dk_54 5 (dk_at dksX6_right_4 3 rfl rfl)
theorem dX6_right_100 : decode cX6_right 100 = .ok (.iload 5, 2) := dk_21 5 (dk_at dksX6_right_4 5 rfl rfl)
theorem dX6_right_102 : decode cX6_right 102 = .ok (.aload_n 0, 1) := dk_42 (dk_at dksX6_right_4 7 rfl rfl)
theorem dX6_right_103 : decode cX6_right 103 = .ok (.getfield 459, 3) := dk_180 1 203 (dk_at dksX6_right_4 8 rfl rfl)
theorem dX6_right_106 : decode cX6_right 106 = .ok (.if_icmp .ge 30, 3) := dk_162 0 30 (dk_at dksX6_right_4 11 rfl rfl)
theorem dX6_right_109 : decode cX6_right 109 = .ok (.iload 4, 2) := dk_21 4 (dk_at dksX6_right_4 14 rfl rfl)
theorem dX6_right_111 : decode cX6_right 111 = .ok (.aload_n 0, 1) := dk_42 (dk_at dksX6_right_4 16 rfl rfl)
theorem dX6_right_112 : decode cX6_right 112 = .ok (.getfield 296, 3) := dk_180 1 40 (dk_at dksX6_right_4 17 rfl rfl)
theorem dX6_right_115 : decode cX6_right 115 = .ok (.iload 5, 2) := dk_21 5 (dk_at dksX6_right_4 20 rfl rfl)
theorem dX6_right_117 : decode cX6_right 117 = .ok (.iaload, 1) := dk_46 (dk_at dksX6_right_4 22 rfl rfl)
theorem dX6_right_118 : decode cX6_right 118 = .ok (.iload_n 2, 1) := dk_28 (dk_at dksX6_right_4 23 rfl rfl)
theorem dX6_right_119 : decode cX6_right 119 = .ok (.if_icmp .ne 7, 3) := dk_160 0 7 (dk_at dksX6_right_5 0 rfl rfl)
theorem dX6_right_122 : decode cX6_right 122 = .ok (.iconst 1, 1) := dk_4 (dk_at dksX6_right_5 3 rfl rfl)
theorem dX6_right_123 : decode cX6_right 123 = .ok (.goto 4, 3) := dk_167 0 4 (dk_at dksX6_right_5 4 rfl rfl)
theorem dX6_right_126 : decode cX6_right 126 = .ok (.iconst 0, 1) := dk_3 (dk_at dksX6_right_5 7 rfl rfl)
theorem dX6_right_127 : decode cX6_right 127 = .ok (.iadd, 1) := dk_96 (dk_at dksX6_right_5 8 rfl rfl)
theorem dX6_right_128 : decode cX6_right 128 = .ok (.istore 4, 2) := dk_54 4 (dk_at dksX6_right_5 9 rfl rfl)
theorem dX6_right_130 : decode cX6_right 130 = .ok (.iinc 5 1, 3) := dk_132 5 1 (dk_at dksX6_right_5 11 rfl rfl)
theorem dX6_right_133 : decode cX6_right 133 = .ok (.goto (-33), 3) := dk_167 255 223 (dk_at dksX6_right_5 14 rfl rfl)
theorem dX6_right_136 : decode cX6_right 136 = .ok (.iload 4, 2) := dk_21 4 (dk_at dksX6_right_5 17 rfl rfl)
theorem dX6_right_138 : decode cX6_right 138 = .ok (.ireturn, 1) := dk_172 (dk_at dksX6_right_5 19 rfl rfl)
abbrev cX6_humps : ByteArray := prog_16_method_81_code
def yX6_humps : MethodName := ⟨RX6, "humps", "(II)I"⟩
def dkwX6_humps_8 : List UInt8 := [21, 6, 167, 0, 5, 21, 7, 172]
abbrev dktX6_humps_8 : List UInt8 := dkwX6_humps_8 ++ []
def dkwX6_humps_7 : List UInt8 := [4, 160, 0, 8, 21, 4, 167, 0, 25, 28, 5, 160, 0, 8, 21, 5, 167, 0, 15, 28, 6, 160, 0, 8]
abbrev dktX6_humps_7 : List UInt8 := dkwX6_humps_7 ++ dktX6_humps_8
def dkwX6_humps_6 : List UInt8 := [167, 255, 179, 132, 9, 1, 167, 255, 163, 132, 8, 1, 167, 255, 147, 28, 154, 0, 7, 29, 167, 0, 35, 28]
abbrev dktX6_humps_6 : List UInt8 := dkwX6_humps_6 ++ dktX6_humps_7
def dkwX6_humps_5 : List UInt8 := [167, 0, 10, 21, 6, 21, 9, 184, 1, 114, 54, 6, 21, 7, 21, 9, 184, 1, 103, 54, 7, 132, 10, 1]
abbrev dktX6_humps_5 : List UInt8 := dkwX6_humps_5 ++ dktX6_humps_6
def dkwX6_humps_4 : List UInt8 := [160, 0, 8, 21, 8, 167, 0, 5, 21, 4, 54, 4, 21, 8, 54, 5, 21, 6, 2, 160, 0, 8, 21, 9]
abbrev dktX6_humps_4 : List UInt8 := dkwX6_humps_4 ++ dktX6_humps_5
def dkwX6_humps_3 : List UInt8 := [21, 8, 21, 9, 21, 10, 27, 182, 1, 213, 154, 0, 6, 167, 0, 54, 132, 3, 1, 21, 4, 2]
abbrev dktX6_humps_3 : List UInt8 := dkwX6_humps_3 ++ dktX6_humps_4
def dkwX6_humps_2 : List UInt8 := [163, 0, 108, 3, 54, 9, 21, 9, 16, 20, 163, 0, 92, 4, 54, 10, 21, 10, 8, 163, 0, 77, 42]
abbrev dktX6_humps_2 : List UInt8 := dkwX6_humps_2 ++ dktX6_humps_3
def dkwX6_humps_1 : List UInt8 := [16, 254, 172, 3, 62, 2, 54, 4, 2, 54, 5, 2, 54, 6, 2, 54, 7, 4, 54, 8, 21, 8, 16, 15]
abbrev dktX6_humps_1 : List UInt8 := dkwX6_humps_1 ++ dktX6_humps_2
def dkwX6_humps_0 : List UInt8 := [27, 133, 9, 20, 1, 191, 184, 0, 52, 153, 0, 15, 28, 133, 9, 20, 1, 169, 184, 0, 52, 154, 0, 6]
abbrev dktX6_humps_0 : List UInt8 := dkwX6_humps_0 ++ dktX6_humps_1
theorem dksX6_humps_0 : cX6_humps.data.toList.drop 0 = dktX6_humps_0 := by decide +kernel
theorem dksX6_humps_1 : cX6_humps.data.toList.drop 24 = dktX6_humps_1 := dk_seg dksX6_humps_0 24 rfl rfl
theorem dksX6_humps_2 : cX6_humps.data.toList.drop 48 = dktX6_humps_2 := dk_seg dksX6_humps_1 24 rfl rfl
theorem dksX6_humps_3 : cX6_humps.data.toList.drop 71 = dktX6_humps_3 := dk_seg dksX6_humps_2 23 rfl rfl
theorem dksX6_humps_4 : cX6_humps.data.toList.drop 93 = dktX6_humps_4 := dk_seg dksX6_humps_3 22 rfl rfl
theorem dksX6_humps_5 : cX6_humps.data.toList.drop 117 = dktX6_humps_5 := dk_seg dksX6_humps_4 24 rfl rfl
theorem dksX6_humps_6 : cX6_humps.data.toList.drop 141 = dktX6_humps_6 := dk_seg dksX6_humps_5 24 rfl rfl
theorem dksX6_humps_7 : cX6_humps.data.toList.drop 165 = dktX6_humps_7 := dk_seg dksX6_humps_6 24 rfl rfl
theorem dksX6_humps_8 : cX6_humps.data.toList.drop 189 = dktX6_humps_8 := dk_seg dksX6_humps_7 24 rfl rfl
theorem dX6_humps_0 : decode cX6_humps 0 = .ok (.iload_n 1, 1) := dk_27 (dk_at dksX6_humps_0 0 rfl rfl)
theorem dX6_humps_1 : decode cX6_humps 1 = .ok (.i2l, 1) := dk_133 (dk_at dksX6_humps_0 1 rfl rfl)
theorem dX6_humps_2 : decode cX6_humps 2 = .ok (.lconst 0, 1) := dk_9 (dk_at dksX6_humps_0 2 rfl rfl)
theorem dX6_humps_3 : decode cX6_humps 3 = .ok (.ldc2_w 447, 3) := dk_20 1 191 (dk_at dksX6_humps_0 3 rfl rfl)
theorem dX6_humps_6 : decode cX6_humps 6 = .ok (.invokestatic 52, 3) := dk_184 0 52 (dk_at dksX6_humps_0 6 rfl rfl)
theorem dX6_humps_9 : decode cX6_humps 9 = .ok (.ifCond .eq 15, 3) := dk_153 0 15 (dk_at dksX6_humps_0 9 rfl rfl)
theorem dX6_humps_12 : decode cX6_humps 12 = .ok (.iload_n 2, 1) := dk_28 (dk_at dksX6_humps_0 12 rfl rfl)
theorem dX6_humps_13 : decode cX6_humps 13 = .ok (.i2l, 1) := dk_133 (dk_at dksX6_humps_0 13 rfl rfl)
theorem dX6_humps_14 : decode cX6_humps 14 = .ok (.lconst 0, 1) := dk_9 (dk_at dksX6_humps_0 14 rfl rfl)
theorem dX6_humps_15 : decode cX6_humps 15 = .ok (.ldc2_w 425, 3) := dk_20 1 169 (dk_at dksX6_humps_0 15 rfl rfl)
theorem dX6_humps_18 : decode cX6_humps 18 = .ok (.invokestatic 52, 3) := dk_184 0 52 (dk_at dksX6_humps_0 18 rfl rfl)
theorem dX6_humps_21 : decode cX6_humps 21 = .ok (.ifCond .ne 6, 3) := dk_154 0 6 (dk_at dksX6_humps_0 21 rfl rfl)
theorem dX6_humps_24 : decode cX6_humps 24 = .ok (.bipush (-2), 2) := dk_16 254 (dk_at dksX6_humps_1 0 rfl rfl)
theorem dX6_humps_26 : decode cX6_humps 26 = .ok (.ireturn, 1) := dk_172 (dk_at dksX6_humps_1 2 rfl rfl)
theorem dX6_humps_27 : decode cX6_humps 27 = .ok (.iconst 0, 1) := dk_3 (dk_at dksX6_humps_1 3 rfl rfl)
theorem dX6_humps_28 : decode cX6_humps 28 = .ok (.istore_n 3, 1) := dk_62 (dk_at dksX6_humps_1 4 rfl rfl)
theorem dX6_humps_29 : decode cX6_humps 29 = .ok (.iconst (-1), 1) := dk_2 (dk_at dksX6_humps_1 5 rfl rfl)
theorem dX6_humps_30 : decode cX6_humps 30 = .ok (.istore 4, 2) := dk_54 4 (dk_at dksX6_humps_1 6 rfl rfl)
theorem dX6_humps_32 : decode cX6_humps 32 = .ok (.iconst (-1), 1) := dk_2 (dk_at dksX6_humps_1 8 rfl rfl)
theorem dX6_humps_33 : decode cX6_humps 33 = .ok (.istore 5, 2) := dk_54 5 (dk_at dksX6_humps_1 9 rfl rfl)
theorem dX6_humps_35 : decode cX6_humps 35 = .ok (.iconst (-1), 1) := dk_2 (dk_at dksX6_humps_1 11 rfl rfl)
theorem dX6_humps_36 : decode cX6_humps 36 = .ok (.istore 6, 2) := dk_54 6 (dk_at dksX6_humps_1 12 rfl rfl)
theorem dX6_humps_38 : decode cX6_humps 38 = .ok (.iconst (-1), 1) := dk_2 (dk_at dksX6_humps_1 14 rfl rfl)
theorem dX6_humps_39 : decode cX6_humps 39 = .ok (.istore 7, 2) := dk_54 7 (dk_at dksX6_humps_1 15 rfl rfl)
theorem dX6_humps_41 : decode cX6_humps 41 = .ok (.iconst 1, 1) := dk_4 (dk_at dksX6_humps_1 17 rfl rfl)
theorem dX6_humps_42 : decode cX6_humps 42 = .ok (.istore 8, 2) := dk_54 8 (dk_at dksX6_humps_1 18 rfl rfl)
theorem dX6_humps_44 : decode cX6_humps 44 = .ok (.iload 8, 2) := dk_21 8 (dk_at dksX6_humps_1 20 rfl rfl)
theorem dX6_humps_46 : decode cX6_humps 46 = .ok (.bipush 15, 2) := dk_16 15 (dk_at dksX6_humps_1 22 rfl rfl)
theorem dX6_humps_48 : decode cX6_humps 48 = .ok (.if_icmp .gt 108, 3) := dk_163 0 108 (dk_at dksX6_humps_2 0 rfl rfl)
theorem dX6_humps_51 : decode cX6_humps 51 = .ok (.iconst 0, 1) := dk_3 (dk_at dksX6_humps_2 3 rfl rfl)
theorem dX6_humps_52 : decode cX6_humps 52 = .ok (.istore 9, 2) := dk_54 9 (dk_at dksX6_humps_2 4 rfl rfl)
theorem dX6_humps_54 : decode cX6_humps 54 = .ok (.iload 9, 2) := dk_21 9 (dk_at dksX6_humps_2 6 rfl rfl)
theorem dX6_humps_56 : decode cX6_humps 56 = .ok (.bipush 20, 2) := dk_16 20 (dk_at dksX6_humps_2 8 rfl rfl)
theorem dX6_humps_58 : decode cX6_humps 58 = .ok (.if_icmp .gt 92, 3) := dk_163 0 92 (dk_at dksX6_humps_2 10 rfl rfl)
theorem dX6_humps_61 : decode cX6_humps 61 = .ok (.iconst 1, 1) := dk_4 (dk_at dksX6_humps_2 13 rfl rfl)
theorem dX6_humps_62 : decode cX6_humps 62 = .ok (.istore 10, 2) := dk_54 10 (dk_at dksX6_humps_2 14 rfl rfl)
theorem dX6_humps_64 : decode cX6_humps 64 = .ok (.iload 10, 2) := dk_21 10 (dk_at dksX6_humps_2 16 rfl rfl)
theorem dX6_humps_66 : decode cX6_humps 66 = .ok (.iconst 5, 1) := dk_8 (dk_at dksX6_humps_2 18 rfl rfl)
theorem dX6_humps_67 : decode cX6_humps 67 = .ok (.if_icmp .gt 77, 3) := dk_163 0 77 (dk_at dksX6_humps_2 19 rfl rfl)
theorem dX6_humps_70 : decode cX6_humps 70 = .ok (.aload_n 0, 1) := dk_42 (dk_at dksX6_humps_2 22 rfl rfl)
theorem dX6_humps_71 : decode cX6_humps 71 = .ok (.iload 8, 2) := dk_21 8 (dk_at dksX6_humps_3 0 rfl rfl)
theorem dX6_humps_73 : decode cX6_humps 73 = .ok (.iload 9, 2) := dk_21 9 (dk_at dksX6_humps_3 2 rfl rfl)
theorem dX6_humps_75 : decode cX6_humps 75 = .ok (.iload 10, 2) := dk_21 10 (dk_at dksX6_humps_3 4 rfl rfl)
theorem dX6_humps_77 : decode cX6_humps 77 = .ok (.iload_n 1, 1) := dk_27 (dk_at dksX6_humps_3 6 rfl rfl)
theorem dX6_humps_78 : decode cX6_humps 78 = .ok (.invokevirtual 469, 3) := dk_182 1 213 (dk_at dksX6_humps_3 7 rfl rfl)
theorem dX6_humps_81 : decode cX6_humps 81 = .ok (.ifCond .ne 6, 3) := dk_154 0 6 (dk_at dksX6_humps_3 10 rfl rfl)
theorem dX6_humps_84 : decode cX6_humps 84 = .ok (.goto 54, 3) := dk_167 0 54 (dk_at dksX6_humps_3 13 rfl rfl)
theorem dX6_humps_87 : decode cX6_humps 87 = .ok (.iinc 3 1, 3) := dk_132 3 1 (dk_at dksX6_humps_3 16 rfl rfl)
theorem dX6_humps_90 : decode cX6_humps 90 = .ok (.iload 4, 2) := dk_21 4 (dk_at dksX6_humps_3 19 rfl rfl)
theorem dX6_humps_92 : decode cX6_humps 92 = .ok (.iconst (-1), 1) := dk_2 (dk_at dksX6_humps_3 21 rfl rfl)
theorem dX6_humps_93 : decode cX6_humps 93 = .ok (.if_icmp .ne 8, 3) := dk_160 0 8 (dk_at dksX6_humps_4 0 rfl rfl)
theorem dX6_humps_96 : decode cX6_humps 96 = .ok (.iload 8, 2) := dk_21 8 (dk_at dksX6_humps_4 3 rfl rfl)
theorem dX6_humps_98 : decode cX6_humps 98 = .ok (.goto 5, 3) := dk_167 0 5 (dk_at dksX6_humps_4 5 rfl rfl)
theorem dX6_humps_101 : decode cX6_humps 101 = .ok (.iload 4, 2) := dk_21 4 (dk_at dksX6_humps_4 8 rfl rfl)
theorem dX6_humps_103 : decode cX6_humps 103 = .ok (.istore 4, 2) := dk_54 4 (dk_at dksX6_humps_4 10 rfl rfl)
theorem dX6_humps_105 : decode cX6_humps 105 = .ok (.iload 8, 2) := dk_21 8 (dk_at dksX6_humps_4 12 rfl rfl)
theorem dX6_humps_107 : decode cX6_humps 107 = .ok (.istore 5, 2) := dk_54 5 (dk_at dksX6_humps_4 14 rfl rfl)
theorem dX6_humps_109 : decode cX6_humps 109 = .ok (.iload 6, 2) := dk_21 6 (dk_at dksX6_humps_4 16 rfl rfl)
theorem dX6_humps_111 : decode cX6_humps 111 = .ok (.iconst (-1), 1) := dk_2 (dk_at dksX6_humps_4 18 rfl rfl)
theorem dX6_humps_112 : decode cX6_humps 112 = .ok (.if_icmp .ne 8, 3) := dk_160 0 8 (dk_at dksX6_humps_4 19 rfl rfl)
theorem dX6_humps_115 : decode cX6_humps 115 = .ok (.iload 9, 2) := dk_21 9 (dk_at dksX6_humps_4 22 rfl rfl)
theorem dX6_humps_117 : decode cX6_humps 117 = .ok (.goto 10, 3) := dk_167 0 10 (dk_at dksX6_humps_5 0 rfl rfl)
theorem dX6_humps_120 : decode cX6_humps 120 = .ok (.iload 6, 2) := dk_21 6 (dk_at dksX6_humps_5 3 rfl rfl)
theorem dX6_humps_122 : decode cX6_humps 122 = .ok (.iload 9, 2) := dk_21 9 (dk_at dksX6_humps_5 5 rfl rfl)
theorem dX6_humps_124 : decode cX6_humps 124 = .ok (.invokestatic 370, 3) := dk_184 1 114 (dk_at dksX6_humps_5 7 rfl rfl)
theorem dX6_humps_127 : decode cX6_humps 127 = .ok (.istore 6, 2) := dk_54 6 (dk_at dksX6_humps_5 10 rfl rfl)
theorem dX6_humps_129 : decode cX6_humps 129 = .ok (.iload 7, 2) := dk_21 7 (dk_at dksX6_humps_5 12 rfl rfl)
theorem dX6_humps_131 : decode cX6_humps 131 = .ok (.iload 9, 2) := dk_21 9 (dk_at dksX6_humps_5 14 rfl rfl)
theorem dX6_humps_133 : decode cX6_humps 133 = .ok (.invokestatic 359, 3) := dk_184 1 103 (dk_at dksX6_humps_5 16 rfl rfl)
theorem dX6_humps_136 : decode cX6_humps 136 = .ok (.istore 7, 2) := dk_54 7 (dk_at dksX6_humps_5 19 rfl rfl)
theorem dX6_humps_138 : decode cX6_humps 138 = .ok (.iinc 10 1, 3) := dk_132 10 1 (dk_at dksX6_humps_5 21 rfl rfl)
theorem dX6_humps_141 : decode cX6_humps 141 = .ok (.goto (-77), 3) := dk_167 255 179 (dk_at dksX6_humps_6 0 rfl rfl)
theorem dX6_humps_144 : decode cX6_humps 144 = .ok (.iinc 9 1, 3) := dk_132 9 1 (dk_at dksX6_humps_6 3 rfl rfl)
theorem dX6_humps_147 : decode cX6_humps 147 = .ok (.goto (-93), 3) := dk_167 255 163 (dk_at dksX6_humps_6 6 rfl rfl)
theorem dX6_humps_150 : decode cX6_humps 150 = .ok (.iinc 8 1, 3) := dk_132 8 1 (dk_at dksX6_humps_6 9 rfl rfl)
theorem dX6_humps_153 : decode cX6_humps 153 = .ok (.goto (-109), 3) := dk_167 255 147 (dk_at dksX6_humps_6 12 rfl rfl)
theorem dX6_humps_156 : decode cX6_humps 156 = .ok (.iload_n 2, 1) := dk_28 (dk_at dksX6_humps_6 15 rfl rfl)
theorem dX6_humps_157 : decode cX6_humps 157 = .ok (.ifCond .ne 7, 3) := dk_154 0 7 (dk_at dksX6_humps_6 16 rfl rfl)
theorem dX6_humps_160 : decode cX6_humps 160 = .ok (.iload_n 3, 1) := dk_29 (dk_at dksX6_humps_6 19 rfl rfl)
theorem dX6_humps_161 : decode cX6_humps 161 = .ok (.goto 35, 3) := dk_167 0 35 (dk_at dksX6_humps_6 20 rfl rfl)
theorem dX6_humps_164 : decode cX6_humps 164 = .ok (.iload_n 2, 1) := dk_28 (dk_at dksX6_humps_6 23 rfl rfl)
theorem dX6_humps_165 : decode cX6_humps 165 = .ok (.iconst 1, 1) := dk_4 (dk_at dksX6_humps_7 0 rfl rfl)
theorem dX6_humps_166 : decode cX6_humps 166 = .ok (.if_icmp .ne 8, 3) := dk_160 0 8 (dk_at dksX6_humps_7 1 rfl rfl)
theorem dX6_humps_169 : decode cX6_humps 169 = .ok (.iload 4, 2) := dk_21 4 (dk_at dksX6_humps_7 4 rfl rfl)
theorem dX6_humps_171 : decode cX6_humps 171 = .ok (.goto 25, 3) := dk_167 0 25 (dk_at dksX6_humps_7 6 rfl rfl)
theorem dX6_humps_174 : decode cX6_humps 174 = .ok (.iload_n 2, 1) := dk_28 (dk_at dksX6_humps_7 9 rfl rfl)
theorem dX6_humps_175 : decode cX6_humps 175 = .ok (.iconst 2, 1) := dk_5 (dk_at dksX6_humps_7 10 rfl rfl)
theorem dX6_humps_176 : decode cX6_humps 176 = .ok (.if_icmp .ne 8, 3) := dk_160 0 8 (dk_at dksX6_humps_7 11 rfl rfl)
theorem dX6_humps_179 : decode cX6_humps 179 = .ok (.iload 5, 2) := dk_21 5 (dk_at dksX6_humps_7 14 rfl rfl)
theorem dX6_humps_181 : decode cX6_humps 181 = .ok (.goto 15, 3) := dk_167 0 15 (dk_at dksX6_humps_7 16 rfl rfl)
theorem dX6_humps_184 : decode cX6_humps 184 = .ok (.iload_n 2, 1) := dk_28 (dk_at dksX6_humps_7 19 rfl rfl)
theorem dX6_humps_185 : decode cX6_humps 185 = .ok (.iconst 3, 1) := dk_6 (dk_at dksX6_humps_7 20 rfl rfl)
theorem dX6_humps_186 : decode cX6_humps 186 = .ok (.if_icmp .ne 8, 3) := dk_160 0 8 (dk_at dksX6_humps_7 21 rfl rfl)
theorem dX6_humps_189 : decode cX6_humps 189 = .ok (.iload 6, 2) := dk_21 6 (dk_at dksX6_humps_8 0 rfl rfl)
theorem dX6_humps_191 : decode cX6_humps 191 = .ok (.goto 5, 3) := dk_167 0 5 (dk_at dksX6_humps_8 2 rfl rfl)
theorem dX6_humps_194 : decode cX6_humps 194 = .ok (.iload 7, 2) := dk_21 7 (dk_at dksX6_humps_8 5 rfl rfl)
theorem dX6_humps_196 : decode cX6_humps 196 = .ok (.ireturn, 1) := dk_172 (dk_at dksX6_humps_8 7 rfl rfl)
abbrev cX6_fits : ByteArray := prog_16_method_80_code
def yX6_fits : MethodName := ⟨RX6, "fits", "(IIII)Z"⟩
def dkwX6_fits_3 : List UInt8 := [167, 255, 190, 4, 172]
abbrev dktX6_fits_3 : List UInt8 := dkwX6_fits_3 ++ []
def dkwX6_fits_2 : List UInt8 := [21, 4, 182, 1, 210, 4, 160, 0, 7, 4, 167, 0, 4, 3, 159, 0, 5, 3, 172, 132, 5, 1]
abbrev dktX6_fits_2 : List UInt8 := dkwX6_fits_2 ++ dktX6_fits_3
def dkwX6_fits_1 : List UInt8 := [27, 28, 29, 42, 180, 1, 28, 21, 5, 46, 42, 180, 1, 31, 21, 5, 46, 184, 1, 206, 42, 21, 5]
abbrev dktX6_fits_1 : List UInt8 := dkwX6_fits_1 ++ dktX6_fits_2
def dkwX6_fits_0 : List UInt8 := [3, 54, 5, 21, 5, 42, 180, 1, 200, 162, 0, 63, 42, 180, 1, 37, 21, 5, 46, 21, 4, 163, 0, 45]
abbrev dktX6_fits_0 : List UInt8 := dkwX6_fits_0 ++ dktX6_fits_1
theorem dksX6_fits_0 : cX6_fits.data.toList.drop 0 = dktX6_fits_0 := by decide +kernel
theorem dksX6_fits_1 : cX6_fits.data.toList.drop 24 = dktX6_fits_1 := dk_seg dksX6_fits_0 24 rfl rfl
theorem dksX6_fits_2 : cX6_fits.data.toList.drop 47 = dktX6_fits_2 := dk_seg dksX6_fits_1 23 rfl rfl
theorem dksX6_fits_3 : cX6_fits.data.toList.drop 69 = dktX6_fits_3 := dk_seg dksX6_fits_2 22 rfl rfl
theorem dX6_fits_0 : decode cX6_fits 0 = .ok (.iconst 0, 1) := dk_3 (dk_at dksX6_fits_0 0 rfl rfl)
theorem dX6_fits_1 : decode cX6_fits 1 = .ok (.istore 5, 2) := dk_54 5 (dk_at dksX6_fits_0 1 rfl rfl)
theorem dX6_fits_3 : decode cX6_fits 3 = .ok (.iload 5, 2) := dk_21 5 (dk_at dksX6_fits_0 3 rfl rfl)
theorem dX6_fits_5 : decode cX6_fits 5 = .ok (.aload_n 0, 1) := dk_42 (dk_at dksX6_fits_0 5 rfl rfl)
theorem dX6_fits_6 : decode cX6_fits 6 = .ok (.getfield 456, 3) := dk_180 1 200 (dk_at dksX6_fits_0 6 rfl rfl)
theorem dX6_fits_9 : decode cX6_fits 9 = .ok (.if_icmp .ge 63, 3) := dk_162 0 63 (dk_at dksX6_fits_0 9 rfl rfl)
theorem dX6_fits_12 : decode cX6_fits 12 = .ok (.aload_n 0, 1) := dk_42 (dk_at dksX6_fits_0 12 rfl rfl)
theorem dX6_fits_13 : decode cX6_fits 13 = .ok (.getfield 293, 3) := dk_180 1 37 (dk_at dksX6_fits_0 13 rfl rfl)
theorem dX6_fits_16 : decode cX6_fits 16 = .ok (.iload 5, 2) := dk_21 5 (dk_at dksX6_fits_0 16 rfl rfl)
theorem dX6_fits_18 : decode cX6_fits 18 = .ok (.iaload, 1) := dk_46 (dk_at dksX6_fits_0 18 rfl rfl)
theorem dX6_fits_19 : decode cX6_fits 19 = .ok (.iload 4, 2) := dk_21 4 (dk_at dksX6_fits_0 19 rfl rfl)
theorem dX6_fits_21 : decode cX6_fits 21 = .ok (.if_icmp .gt 45, 3) := dk_163 0 45 (dk_at dksX6_fits_0 21 rfl rfl)
theorem dX6_fits_24 : decode cX6_fits 24 = .ok (.iload_n 1, 1) := dk_27 (dk_at dksX6_fits_1 0 rfl rfl)
theorem dX6_fits_25 : decode cX6_fits 25 = .ok (.iload_n 2, 1) := dk_28 (dk_at dksX6_fits_1 1 rfl rfl)
theorem dX6_fits_26 : decode cX6_fits 26 = .ok (.iload_n 3, 1) := dk_29 (dk_at dksX6_fits_1 2 rfl rfl)
theorem dX6_fits_27 : decode cX6_fits 27 = .ok (.aload_n 0, 1) := dk_42 (dk_at dksX6_fits_1 3 rfl rfl)
theorem dX6_fits_28 : decode cX6_fits 28 = .ok (.getfield 284, 3) := dk_180 1 28 (dk_at dksX6_fits_1 4 rfl rfl)
theorem dX6_fits_31 : decode cX6_fits 31 = .ok (.iload 5, 2) := dk_21 5 (dk_at dksX6_fits_1 7 rfl rfl)
theorem dX6_fits_33 : decode cX6_fits 33 = .ok (.iaload, 1) := dk_46 (dk_at dksX6_fits_1 9 rfl rfl)
theorem dX6_fits_34 : decode cX6_fits 34 = .ok (.aload_n 0, 1) := dk_42 (dk_at dksX6_fits_1 10 rfl rfl)
theorem dX6_fits_35 : decode cX6_fits 35 = .ok (.getfield 287, 3) := dk_180 1 31 (dk_at dksX6_fits_1 11 rfl rfl)
theorem dX6_fits_38 : decode cX6_fits 38 = .ok (.iload 5, 2) := dk_21 5 (dk_at dksX6_fits_1 14 rfl rfl)
theorem dX6_fits_40 : decode cX6_fits 40 = .ok (.iaload, 1) := dk_46 (dk_at dksX6_fits_1 16 rfl rfl)
theorem dX6_fits_41 : decode cX6_fits 41 = .ok (.invokestatic 462, 3) := dk_184 1 206 (dk_at dksX6_fits_1 17 rfl rfl)
theorem dX6_fits_44 : decode cX6_fits 44 = .ok (.aload_n 0, 1) := dk_42 (dk_at dksX6_fits_1 20 rfl rfl)
theorem dX6_fits_45 : decode cX6_fits 45 = .ok (.iload 5, 2) := dk_21 5 (dk_at dksX6_fits_1 21 rfl rfl)
theorem dX6_fits_47 : decode cX6_fits 47 = .ok (.iload 4, 2) := dk_21 4 (dk_at dksX6_fits_2 0 rfl rfl)
theorem dX6_fits_49 : decode cX6_fits 49 = .ok (.invokevirtual 466, 3) := dk_182 1 210 (dk_at dksX6_fits_2 2 rfl rfl)
theorem dX6_fits_52 : decode cX6_fits 52 = .ok (.iconst 1, 1) := dk_4 (dk_at dksX6_fits_2 5 rfl rfl)
theorem dX6_fits_53 : decode cX6_fits 53 = .ok (.if_icmp .ne 7, 3) := dk_160 0 7 (dk_at dksX6_fits_2 6 rfl rfl)
theorem dX6_fits_56 : decode cX6_fits 56 = .ok (.iconst 1, 1) := dk_4 (dk_at dksX6_fits_2 9 rfl rfl)
theorem dX6_fits_57 : decode cX6_fits 57 = .ok (.goto 4, 3) := dk_167 0 4 (dk_at dksX6_fits_2 10 rfl rfl)
theorem dX6_fits_60 : decode cX6_fits 60 = .ok (.iconst 0, 1) := dk_3 (dk_at dksX6_fits_2 13 rfl rfl)
theorem dX6_fits_61 : decode cX6_fits 61 = .ok (.if_icmp .eq 5, 3) := dk_159 0 5 (dk_at dksX6_fits_2 14 rfl rfl)
theorem dX6_fits_64 : decode cX6_fits 64 = .ok (.iconst 0, 1) := dk_3 (dk_at dksX6_fits_2 17 rfl rfl)
theorem dX6_fits_65 : decode cX6_fits 65 = .ok (.ireturn, 1) := dk_172 (dk_at dksX6_fits_2 18 rfl rfl)
theorem dX6_fits_66 : decode cX6_fits 66 = .ok (.iinc 5 1, 3) := dk_132 5 1 (dk_at dksX6_fits_2 19 rfl rfl)
theorem dX6_fits_69 : decode cX6_fits 69 = .ok (.goto (-66), 3) := dk_167 255 190 (dk_at dksX6_fits_3 0 rfl rfl)
theorem dX6_fits_72 : decode cX6_fits 72 = .ok (.iconst 1, 1) := dk_4 (dk_at dksX6_fits_3 3 rfl rfl)
theorem dX6_fits_73 : decode cX6_fits 73 = .ok (.ireturn, 1) := dk_172 (dk_at dksX6_fits_3 4 rfl rfl)
abbrev cX6_stands : ByteArray := prog_16_method_79_code
def yX6_stands : MethodName := ⟨RX6, "stands", "(IIIII)Z"⟩
def dkwX6_stands_1 : List UInt8 := [167, 0, 4, 3, 172]
abbrev dktX6_stands_1 : List UInt8 := dkwX6_stands_1 ++ []
def dkwX6_stands_0 : List UInt8 := [21, 4, 4, 3, 27, 28, 29, 26, 100, 184, 1, 98, 104, 100, 184, 1, 103, 96, 163, 0, 7, 4]
abbrev dktX6_stands_0 : List UInt8 := dkwX6_stands_0 ++ dktX6_stands_1
theorem dksX6_stands_0 : cX6_stands.data.toList.drop 0 = dktX6_stands_0 := by decide +kernel
theorem dksX6_stands_1 : cX6_stands.data.toList.drop 22 = dktX6_stands_1 := dk_seg dksX6_stands_0 22 rfl rfl
theorem dX6_stands_0 : decode cX6_stands 0 = .ok (.iload 4, 2) := dk_21 4 (dk_at dksX6_stands_0 0 rfl rfl)
theorem dX6_stands_2 : decode cX6_stands 2 = .ok (.iconst 1, 1) := dk_4 (dk_at dksX6_stands_0 2 rfl rfl)
theorem dX6_stands_3 : decode cX6_stands 3 = .ok (.iconst 0, 1) := dk_3 (dk_at dksX6_stands_0 3 rfl rfl)
theorem dX6_stands_4 : decode cX6_stands 4 = .ok (.iload_n 1, 1) := dk_27 (dk_at dksX6_stands_0 4 rfl rfl)
theorem dX6_stands_5 : decode cX6_stands 5 = .ok (.iload_n 2, 1) := dk_28 (dk_at dksX6_stands_0 5 rfl rfl)
theorem dX6_stands_6 : decode cX6_stands 6 = .ok (.iload_n 3, 1) := dk_29 (dk_at dksX6_stands_0 6 rfl rfl)
theorem dX6_stands_7 : decode cX6_stands 7 = .ok (.iload_n 0, 1) := dk_26 (dk_at dksX6_stands_0 7 rfl rfl)
theorem dX6_stands_8 : decode cX6_stands 8 = .ok (.isub, 1) := dk_100 (dk_at dksX6_stands_0 8 rfl rfl)
theorem dX6_stands_9 : decode cX6_stands 9 = .ok (.invokestatic 354, 3) := dk_184 1 98 (dk_at dksX6_stands_0 9 rfl rfl)
theorem dX6_stands_12 : decode cX6_stands 12 = .ok (.imul, 1) := dk_104 (dk_at dksX6_stands_0 12 rfl rfl)
theorem dX6_stands_13 : decode cX6_stands 13 = .ok (.isub, 1) := dk_100 (dk_at dksX6_stands_0 13 rfl rfl)
theorem dX6_stands_14 : decode cX6_stands 14 = .ok (.invokestatic 359, 3) := dk_184 1 103 (dk_at dksX6_stands_0 14 rfl rfl)
theorem dX6_stands_17 : decode cX6_stands 17 = .ok (.iadd, 1) := dk_96 (dk_at dksX6_stands_0 17 rfl rfl)
theorem dX6_stands_18 : decode cX6_stands 18 = .ok (.if_icmp .gt 7, 3) := dk_163 0 7 (dk_at dksX6_stands_0 18 rfl rfl)
theorem dX6_stands_21 : decode cX6_stands 21 = .ok (.iconst 1, 1) := dk_4 (dk_at dksX6_stands_0 21 rfl rfl)
theorem dX6_stands_22 : decode cX6_stands 22 = .ok (.goto 4, 3) := dk_167 0 4 (dk_at dksX6_stands_1 0 rfl rfl)
theorem dX6_stands_25 : decode cX6_stands 25 = .ok (.iconst 0, 1) := dk_3 (dk_at dksX6_stands_1 3 rfl rfl)
theorem dX6_stands_26 : decode cX6_stands 26 = .ok (.ireturn, 1) := dk_172 (dk_at dksX6_stands_1 4 rfl rfl)
abbrev cX6_stoodBy : ByteArray := prog_16_method_78_code
def yX6_stoodBy : MethodName := ⟨RX6, "stoodBy", "(II)I"⟩
def dkwX6_stoodBy_2 : List UInt8 := [46, 62, 132, 4, 1, 167, 255, 214, 29, 172]
abbrev dktX6_stoodBy_2 : List UInt8 := dkwX6_stoodBy_2 ++ []
def dkwX6_stoodBy_1 : List UInt8 := [21, 4, 46, 27, 160, 0, 22, 42, 180, 1, 46, 21, 4, 46, 28, 163, 0, 11, 42, 180, 1, 43, 21, 4]
abbrev dktX6_stoodBy_1 : List UInt8 := dkwX6_stoodBy_1 ++ dktX6_stoodBy_2
def dkwX6_stoodBy_0 : List UInt8 := [42, 180, 1, 34, 27, 46, 62, 3, 54, 4, 21, 4, 42, 180, 1, 203, 162, 0, 39, 42, 180, 1, 40]
abbrev dktX6_stoodBy_0 : List UInt8 := dkwX6_stoodBy_0 ++ dktX6_stoodBy_1
theorem dksX6_stoodBy_0 : cX6_stoodBy.data.toList.drop 0 = dktX6_stoodBy_0 := by decide +kernel
theorem dksX6_stoodBy_1 : cX6_stoodBy.data.toList.drop 23 = dktX6_stoodBy_1 := dk_seg dksX6_stoodBy_0 23 rfl rfl
theorem dksX6_stoodBy_2 : cX6_stoodBy.data.toList.drop 47 = dktX6_stoodBy_2 := dk_seg dksX6_stoodBy_1 24 rfl rfl
theorem dX6_stoodBy_0 : decode cX6_stoodBy 0 = .ok (.aload_n 0, 1) := dk_42 (dk_at dksX6_stoodBy_0 0 rfl rfl)
theorem dX6_stoodBy_1 : decode cX6_stoodBy 1 = .ok (.getfield 290, 3) := dk_180 1 34 (dk_at dksX6_stoodBy_0 1 rfl rfl)
theorem dX6_stoodBy_4 : decode cX6_stoodBy 4 = .ok (.iload_n 1, 1) := dk_27 (dk_at dksX6_stoodBy_0 4 rfl rfl)
theorem dX6_stoodBy_5 : decode cX6_stoodBy 5 = .ok (.iaload, 1) := dk_46 (dk_at dksX6_stoodBy_0 5 rfl rfl)
theorem dX6_stoodBy_6 : decode cX6_stoodBy 6 = .ok (.istore_n 3, 1) := dk_62 (dk_at dksX6_stoodBy_0 6 rfl rfl)
theorem dX6_stoodBy_7 : decode cX6_stoodBy 7 = .ok (.iconst 0, 1) := dk_3 (dk_at dksX6_stoodBy_0 7 rfl rfl)
theorem dX6_stoodBy_8 : decode cX6_stoodBy 8 = .ok (.istore 4, 2) := dk_54 4 (dk_at dksX6_stoodBy_0 8 rfl rfl)
theorem dX6_stoodBy_10 : decode cX6_stoodBy 10 = .ok (.iload 4, 2) := dk_21 4 (dk_at dksX6_stoodBy_0 10 rfl rfl)
theorem dX6_stoodBy_12 : decode cX6_stoodBy 12 = .ok (.aload_n 0, 1) := dk_42 (dk_at dksX6_stoodBy_0 12 rfl rfl)
theorem dX6_stoodBy_13 : decode cX6_stoodBy 13 = .ok (.getfield 459, 3) := dk_180 1 203 (dk_at dksX6_stoodBy_0 13 rfl rfl)
theorem dX6_stoodBy_16 : decode cX6_stoodBy 16 = .ok (.if_icmp .ge 39, 3) := dk_162 0 39 (dk_at dksX6_stoodBy_0 16 rfl rfl)
theorem dX6_stoodBy_19 : decode cX6_stoodBy 19 = .ok (.aload_n 0, 1) := dk_42 (dk_at dksX6_stoodBy_0 19 rfl rfl)
theorem dX6_stoodBy_20 : decode cX6_stoodBy 20 = .ok (.getfield 296, 3) := dk_180 1 40 (dk_at dksX6_stoodBy_0 20 rfl rfl)
theorem dX6_stoodBy_23 : decode cX6_stoodBy 23 = .ok (.iload 4, 2) := dk_21 4 (dk_at dksX6_stoodBy_1 0 rfl rfl)
theorem dX6_stoodBy_25 : decode cX6_stoodBy 25 = .ok (.iaload, 1) := dk_46 (dk_at dksX6_stoodBy_1 2 rfl rfl)
theorem dX6_stoodBy_26 : decode cX6_stoodBy 26 = .ok (.iload_n 1, 1) := dk_27 (dk_at dksX6_stoodBy_1 3 rfl rfl)
theorem dX6_stoodBy_27 : decode cX6_stoodBy 27 = .ok (.if_icmp .ne 22, 3) := dk_160 0 22 (dk_at dksX6_stoodBy_1 4 rfl rfl)
theorem dX6_stoodBy_30 : decode cX6_stoodBy 30 = .ok (.aload_n 0, 1) := dk_42 (dk_at dksX6_stoodBy_1 7 rfl rfl)
theorem dX6_stoodBy_31 : decode cX6_stoodBy 31 = .ok (.getfield 302, 3) := dk_180 1 46 (dk_at dksX6_stoodBy_1 8 rfl rfl)
theorem dX6_stoodBy_34 : decode cX6_stoodBy 34 = .ok (.iload 4, 2) := dk_21 4 (dk_at dksX6_stoodBy_1 11 rfl rfl)
theorem dX6_stoodBy_36 : decode cX6_stoodBy 36 = .ok (.iaload, 1) := dk_46 (dk_at dksX6_stoodBy_1 13 rfl rfl)
theorem dX6_stoodBy_37 : decode cX6_stoodBy 37 = .ok (.iload_n 2, 1) := dk_28 (dk_at dksX6_stoodBy_1 14 rfl rfl)
theorem dX6_stoodBy_38 : decode cX6_stoodBy 38 = .ok (.if_icmp .gt 11, 3) := dk_163 0 11 (dk_at dksX6_stoodBy_1 15 rfl rfl)
theorem dX6_stoodBy_41 : decode cX6_stoodBy 41 = .ok (.aload_n 0, 1) := dk_42 (dk_at dksX6_stoodBy_1 18 rfl rfl)
theorem dX6_stoodBy_42 : decode cX6_stoodBy 42 = .ok (.getfield 299, 3) := dk_180 1 43 (dk_at dksX6_stoodBy_1 19 rfl rfl)
theorem dX6_stoodBy_45 : decode cX6_stoodBy 45 = .ok (.iload 4, 2) := dk_21 4 (dk_at dksX6_stoodBy_1 22 rfl rfl)
theorem dX6_stoodBy_47 : decode cX6_stoodBy 47 = .ok (.iaload, 1) := dk_46 (dk_at dksX6_stoodBy_2 0 rfl rfl)
theorem dX6_stoodBy_48 : decode cX6_stoodBy 48 = .ok (.istore_n 3, 1) := dk_62 (dk_at dksX6_stoodBy_2 1 rfl rfl)
theorem dX6_stoodBy_49 : decode cX6_stoodBy 49 = .ok (.iinc 4 1, 3) := dk_132 4 1 (dk_at dksX6_stoodBy_2 2 rfl rfl)
theorem dX6_stoodBy_52 : decode cX6_stoodBy 52 = .ok (.goto (-42), 3) := dk_167 255 214 (dk_at dksX6_stoodBy_2 5 rfl rfl)
theorem dX6_stoodBy_55 : decode cX6_stoodBy 55 = .ok (.iload_n 3, 1) := dk_29 (dk_at dksX6_stoodBy_2 8 rfl rfl)
theorem dX6_stoodBy_56 : decode cX6_stoodBy 56 = .ok (.ireturn, 1) := dk_172 (dk_at dksX6_stoodBy_2 9 rfl rfl)
abbrev cX6_next : ByteArray := prog_16_method_82_code
def yX6_next : MethodName := ⟨RX6, "next", "()I"⟩
def dkwX6_next_10 : List UInt8 := [167, 255, 192, 132, 4, 1, 167, 255, 176, 29, 172]
abbrev dktX6_next_10 : List UInt8 := dkwX6_next_10 ++ []
def dkwX6_next_9 : List UInt8 := [21, 6, 28, 161, 0, 6, 167, 0, 15, 21, 6, 61, 16, 100, 21, 4, 104, 21, 5, 96, 62, 132, 5, 1]
abbrev dktX6_next_9 : List UInt8 := dkwX6_next_9 ++ dktX6_next_10
def dkwX6_next_8 : List UInt8 := [21, 5, 96, 46, 27, 42, 180, 1, 49, 16, 31, 21, 4, 104, 21, 5, 96, 46, 100, 184, 1, 103, 54, 6]
abbrev dktX6_next_8 : List UInt8 := dkwX6_next_8 ++ dktX6_next_9
def dkwX6_next_7 : List UInt8 := [16, 15, 163, 0, 79, 4, 54, 5, 21, 5, 16, 30, 163, 0, 63, 42, 180, 1, 49, 16, 31, 21, 4, 104]
abbrev dktX6_next_7 : List UInt8 := dkwX6_next_7 ++ dktX6_next_8
def dkwX6_next_6 : List UInt8 := [167, 255, 160, 132, 3, 1, 167, 255, 145, 132, 2, 1, 167, 255, 131, 27, 61, 2, 62, 4, 54, 4, 21, 4]
abbrev dktX6_next_6 : List UInt8 := dkwX6_next_6 ++ dktX6_next_7
def dkwX6_next_5 : List UInt8 := [4, 167, 0, 4, 3, 96, 79, 132, 6, 1, 167, 255, 211, 132, 5, 1, 167, 255, 195, 132, 4, 1]
abbrev dktX6_next_5 : List UInt8 := dkwX6_next_5 ++ dktX6_next_6
def dkwX6_next_4 : List UInt8 := [16, 31, 21, 5, 104, 21, 6, 96, 92, 46, 28, 29, 21, 4, 21, 5, 21, 6, 184, 1, 206, 153, 0, 7]
abbrev dktX6_next_4 : List UInt8 := dkwX6_next_4 ++ dktX6_next_5
def dkwX6_next_3 : List UInt8 := [4, 54, 5, 21, 5, 16, 15, 163, 0, 60, 4, 54, 6, 21, 6, 16, 30, 163, 0, 44, 42, 180, 1, 49]
abbrev dktX6_next_3 : List UInt8 := dkwX6_next_3 ++ dktX6_next_4
def dkwX6_next_2 : List UInt8 := [8, 163, 0, 96, 42, 28, 29, 21, 4, 17, 3, 231, 182, 1, 213, 154, 0, 6, 167, 0, 73, 132, 1, 1]
abbrev dktX6_next_2 : List UInt8 := dkwX6_next_2 ++ dktX6_next_3
def dkwX6_next_1 : List UInt8 := [167, 255, 237, 4, 61, 28, 16, 15, 163, 0, 125, 3, 62, 29, 16, 20, 163, 0, 111, 4, 54, 4, 21, 4]
abbrev dktX6_next_1 : List UInt8 := dkwX6_next_1 ++ dktX6_next_2
def dkwX6_next_0 : List UInt8 := [3, 60, 3, 61, 28, 42, 180, 1, 49, 190, 162, 0, 16, 42, 180, 1, 49, 28, 3, 79, 132, 2, 1]
abbrev dktX6_next_0 : List UInt8 := dkwX6_next_0 ++ dktX6_next_1
theorem dksX6_next_0 : cX6_next.data.toList.drop 0 = dktX6_next_0 := by decide +kernel
theorem dksX6_next_1 : cX6_next.data.toList.drop 23 = dktX6_next_1 := dk_seg dksX6_next_0 23 rfl rfl
theorem dksX6_next_2 : cX6_next.data.toList.drop 47 = dktX6_next_2 := dk_seg dksX6_next_1 24 rfl rfl
theorem dksX6_next_3 : cX6_next.data.toList.drop 71 = dktX6_next_3 := dk_seg dksX6_next_2 24 rfl rfl
theorem dksX6_next_4 : cX6_next.data.toList.drop 95 = dktX6_next_4 := dk_seg dksX6_next_3 24 rfl rfl
theorem dksX6_next_5 : cX6_next.data.toList.drop 119 = dktX6_next_5 := dk_seg dksX6_next_4 24 rfl rfl
theorem dksX6_next_6 : cX6_next.data.toList.drop 141 = dktX6_next_6 := dk_seg dksX6_next_5 22 rfl rfl
theorem dksX6_next_7 : cX6_next.data.toList.drop 165 = dktX6_next_7 := dk_seg dksX6_next_6 24 rfl rfl
theorem dksX6_next_8 : cX6_next.data.toList.drop 189 = dktX6_next_8 := dk_seg dksX6_next_7 24 rfl rfl
theorem dksX6_next_9 : cX6_next.data.toList.drop 213 = dktX6_next_9 := dk_seg dksX6_next_8 24 rfl rfl
theorem dksX6_next_10 : cX6_next.data.toList.drop 237 = dktX6_next_10 := dk_seg dksX6_next_9 24 rfl rfl
theorem dX6_next_0 : decode cX6_next 0 = .ok (.iconst 0, 1) := dk_3 (dk_at dksX6_next_0 0 rfl rfl)
theorem dX6_next_1 : decode cX6_next 1 = .ok (.istore_n 1, 1) := dk_60 (dk_at dksX6_next_0 1 rfl rfl)
theorem dX6_next_2 : decode cX6_next 2 = .ok (.iconst 0, 1) := dk_3 (dk_at dksX6_next_0 2 rfl rfl)
theorem dX6_next_3 : decode cX6_next 3 = .ok (.istore_n 2, 1) := dk_61 (dk_at dksX6_next_0 3 rfl rfl)
theorem dX6_next_4 : decode cX6_next 4 = .ok (.iload_n 2, 1) := dk_28 (dk_at dksX6_next_0 4 rfl rfl)
theorem dX6_next_5 : decode cX6_next 5 = .ok (.aload_n 0, 1) := dk_42 (dk_at dksX6_next_0 5 rfl rfl)
theorem dX6_next_6 : decode cX6_next 6 = .ok (.getfield 305, 3) := dk_180 1 49 (dk_at dksX6_next_0 6 rfl rfl)
theorem dX6_next_9 : decode cX6_next 9 = .ok (.arraylength, 1) := dk_190 (dk_at dksX6_next_0 9 rfl rfl)
theorem dX6_next_10 : decode cX6_next 10 = .ok (.if_icmp .ge 16, 3) := dk_162 0 16 (dk_at dksX6_next_0 10 rfl rfl)
theorem dX6_next_13 : decode cX6_next 13 = .ok (.aload_n 0, 1) := dk_42 (dk_at dksX6_next_0 13 rfl rfl)
theorem dX6_next_14 : decode cX6_next 14 = .ok (.getfield 305, 3) := dk_180 1 49 (dk_at dksX6_next_0 14 rfl rfl)
theorem dX6_next_17 : decode cX6_next 17 = .ok (.iload_n 2, 1) := dk_28 (dk_at dksX6_next_0 17 rfl rfl)
theorem dX6_next_18 : decode cX6_next 18 = .ok (.iconst 0, 1) := dk_3 (dk_at dksX6_next_0 18 rfl rfl)
theorem dX6_next_19 : decode cX6_next 19 = .ok (.iastore, 1) := dk_79 (dk_at dksX6_next_0 19 rfl rfl)
theorem dX6_next_20 : decode cX6_next 20 = .ok (.iinc 2 1, 3) := dk_132 2 1 (dk_at dksX6_next_0 20 rfl rfl)
theorem dX6_next_23 : decode cX6_next 23 = .ok (.goto (-19), 3) := dk_167 255 237 (dk_at dksX6_next_1 0 rfl rfl)
theorem dX6_next_26 : decode cX6_next 26 = .ok (.iconst 1, 1) := dk_4 (dk_at dksX6_next_1 3 rfl rfl)
theorem dX6_next_27 : decode cX6_next 27 = .ok (.istore_n 2, 1) := dk_61 (dk_at dksX6_next_1 4 rfl rfl)
theorem dX6_next_28 : decode cX6_next 28 = .ok (.iload_n 2, 1) := dk_28 (dk_at dksX6_next_1 5 rfl rfl)
theorem dX6_next_29 : decode cX6_next 29 = .ok (.bipush 15, 2) := dk_16 15 (dk_at dksX6_next_1 6 rfl rfl)
theorem dX6_next_31 : decode cX6_next 31 = .ok (.if_icmp .gt 125, 3) := dk_163 0 125 (dk_at dksX6_next_1 8 rfl rfl)
theorem dX6_next_34 : decode cX6_next 34 = .ok (.iconst 0, 1) := dk_3 (dk_at dksX6_next_1 11 rfl rfl)
theorem dX6_next_35 : decode cX6_next 35 = .ok (.istore_n 3, 1) := dk_62 (dk_at dksX6_next_1 12 rfl rfl)
theorem dX6_next_36 : decode cX6_next 36 = .ok (.iload_n 3, 1) := dk_29 (dk_at dksX6_next_1 13 rfl rfl)
theorem dX6_next_37 : decode cX6_next 37 = .ok (.bipush 20, 2) := dk_16 20 (dk_at dksX6_next_1 14 rfl rfl)
theorem dX6_next_39 : decode cX6_next 39 = .ok (.if_icmp .gt 111, 3) := dk_163 0 111 (dk_at dksX6_next_1 16 rfl rfl)
theorem dX6_next_42 : decode cX6_next 42 = .ok (.iconst 1, 1) := dk_4 (dk_at dksX6_next_1 19 rfl rfl)
theorem dX6_next_43 : decode cX6_next 43 = .ok (.istore 4, 2) := dk_54 4 (dk_at dksX6_next_1 20 rfl rfl)
theorem dX6_next_45 : decode cX6_next 45 = .ok (.iload 4, 2) := dk_21 4 (dk_at dksX6_next_1 22 rfl rfl)
theorem dX6_next_47 : decode cX6_next 47 = .ok (.iconst 5, 1) := dk_8 (dk_at dksX6_next_2 0 rfl rfl)
theorem dX6_next_48 : decode cX6_next 48 = .ok (.if_icmp .gt 96, 3) := dk_163 0 96 (dk_at dksX6_next_2 1 rfl rfl)
theorem dX6_next_51 : decode cX6_next 51 = .ok (.aload_n 0, 1) := dk_42 (dk_at dksX6_next_2 4 rfl rfl)
theorem dX6_next_52 : decode cX6_next 52 = .ok (.iload_n 2, 1) := dk_28 (dk_at dksX6_next_2 5 rfl rfl)
theorem dX6_next_53 : decode cX6_next 53 = .ok (.iload_n 3, 1) := dk_29 (dk_at dksX6_next_2 6 rfl rfl)
theorem dX6_next_54 : decode cX6_next 54 = .ok (.iload 4, 2) := dk_21 4 (dk_at dksX6_next_2 7 rfl rfl)
theorem dX6_next_56 : decode cX6_next 56 = .ok (.sipush 999, 3) := dk_17 3 231 (dk_at dksX6_next_2 9 rfl rfl)
theorem dX6_next_59 : decode cX6_next 59 = .ok (.invokevirtual 469, 3) := dk_182 1 213 (dk_at dksX6_next_2 12 rfl rfl)
theorem dX6_next_62 : decode cX6_next 62 = .ok (.ifCond .ne 6, 3) := dk_154 0 6 (dk_at dksX6_next_2 15 rfl rfl)
theorem dX6_next_65 : decode cX6_next 65 = .ok (.goto 73, 3) := dk_167 0 73 (dk_at dksX6_next_2 18 rfl rfl)
theorem dX6_next_68 : decode cX6_next 68 = .ok (.iinc 1 1, 3) := dk_132 1 1 (dk_at dksX6_next_2 21 rfl rfl)
theorem dX6_next_71 : decode cX6_next 71 = .ok (.iconst 1, 1) := dk_4 (dk_at dksX6_next_3 0 rfl rfl)
theorem dX6_next_72 : decode cX6_next 72 = .ok (.istore 5, 2) := dk_54 5 (dk_at dksX6_next_3 1 rfl rfl)
theorem dX6_next_74 : decode cX6_next 74 = .ok (.iload 5, 2) := dk_21 5 (dk_at dksX6_next_3 3 rfl rfl)
theorem dX6_next_76 : decode cX6_next 76 = .ok (.bipush 15, 2) := dk_16 15 (dk_at dksX6_next_3 5 rfl rfl)
theorem dX6_next_78 : decode cX6_next 78 = .ok (.if_icmp .gt 60, 3) := dk_163 0 60 (dk_at dksX6_next_3 7 rfl rfl)
theorem dX6_next_81 : decode cX6_next 81 = .ok (.iconst 1, 1) := dk_4 (dk_at dksX6_next_3 10 rfl rfl)
theorem dX6_next_82 : decode cX6_next 82 = .ok (.istore 6, 2) := dk_54 6 (dk_at dksX6_next_3 11 rfl rfl)
theorem dX6_next_84 : decode cX6_next 84 = .ok (.iload 6, 2) := dk_21 6 (dk_at dksX6_next_3 13 rfl rfl)
theorem dX6_next_86 : decode cX6_next 86 = .ok (.bipush 30, 2) := dk_16 30 (dk_at dksX6_next_3 15 rfl rfl)
theorem dX6_next_88 : decode cX6_next 88 = .ok (.if_icmp .gt 44, 3) := dk_163 0 44 (dk_at dksX6_next_3 17 rfl rfl)
theorem dX6_next_91 : decode cX6_next 91 = .ok (.aload_n 0, 1) := dk_42 (dk_at dksX6_next_3 20 rfl rfl)
theorem dX6_next_92 : decode cX6_next 92 = .ok (.getfield 305, 3) := dk_180 1 49 (dk_at dksX6_next_3 21 rfl rfl)
theorem dX6_next_95 : decode cX6_next 95 = .ok (.bipush 31, 2) := dk_16 31 (dk_at dksX6_next_4 0 rfl rfl)
theorem dX6_next_97 : decode cX6_next 97 = .ok (.iload 5, 2) := dk_21 5 (dk_at dksX6_next_4 2 rfl rfl)
theorem dX6_next_99 : decode cX6_next 99 = .ok (.imul, 1) := dk_104 (dk_at dksX6_next_4 4 rfl rfl)
theorem dX6_next_100 : decode cX6_next 100 = .ok (.iload 6, 2) := dk_21 6 (dk_at dksX6_next_4 5 rfl rfl)
theorem dX6_next_102 : decode cX6_next 102 = .ok (.iadd, 1) := dk_96 (dk_at dksX6_next_4 7 rfl rfl)
theorem dX6_next_103 : decode cX6_next 103 = .ok (.dup2, 1) := dk_92 (dk_at dksX6_next_4 8 rfl rfl)
theorem dX6_next_104 : decode cX6_next 104 = .ok (.iaload, 1) := dk_46 (dk_at dksX6_next_4 9 rfl rfl)
theorem dX6_next_105 : decode cX6_next 105 = .ok (.iload_n 2, 1) := dk_28 (dk_at dksX6_next_4 10 rfl rfl)
theorem dX6_next_106 : decode cX6_next 106 = .ok (.iload_n 3, 1) := dk_29 (dk_at dksX6_next_4 11 rfl rfl)
theorem dX6_next_107 : decode cX6_next 107 = .ok (.iload 4, 2) := dk_21 4 (dk_at dksX6_next_4 12 rfl rfl)
theorem dX6_next_109 : decode cX6_next 109 = .ok (.iload 5, 2) := dk_21 5 (dk_at dksX6_next_4 14 rfl rfl)
theorem dX6_next_111 : decode cX6_next 111 = .ok (.iload 6, 2) := dk_21 6 (dk_at dksX6_next_4 16 rfl rfl)
theorem dX6_next_113 : decode cX6_next 113 = .ok (.invokestatic 462, 3) := dk_184 1 206 (dk_at dksX6_next_4 18 rfl rfl)
theorem dX6_next_116 : decode cX6_next 116 = .ok (.ifCond .eq 7, 3) := dk_153 0 7 (dk_at dksX6_next_4 21 rfl rfl)
theorem dX6_next_119 : decode cX6_next 119 = .ok (.iconst 1, 1) := dk_4 (dk_at dksX6_next_5 0 rfl rfl)
theorem dX6_next_120 : decode cX6_next 120 = .ok (.goto 4, 3) := dk_167 0 4 (dk_at dksX6_next_5 1 rfl rfl)
theorem dX6_next_123 : decode cX6_next 123 = .ok (.iconst 0, 1) := dk_3 (dk_at dksX6_next_5 4 rfl rfl)
theorem dX6_next_124 : decode cX6_next 124 = .ok (.iadd, 1) := dk_96 (dk_at dksX6_next_5 5 rfl rfl)
theorem dX6_next_125 : decode cX6_next 125 = .ok (.iastore, 1) := dk_79 (dk_at dksX6_next_5 6 rfl rfl)
theorem dX6_next_126 : decode cX6_next 126 = .ok (.iinc 6 1, 3) := dk_132 6 1 (dk_at dksX6_next_5 7 rfl rfl)
theorem dX6_next_129 : decode cX6_next 129 = .ok (.goto (-45), 3) := dk_167 255 211 (dk_at dksX6_next_5 10 rfl rfl)
theorem dX6_next_132 : decode cX6_next 132 = .ok (.iinc 5 1, 3) := dk_132 5 1 (dk_at dksX6_next_5 13 rfl rfl)
theorem dX6_next_135 : decode cX6_next 135 = .ok (.goto (-61), 3) := dk_167 255 195 (dk_at dksX6_next_5 16 rfl rfl)
theorem dX6_next_138 : decode cX6_next 138 = .ok (.iinc 4 1, 3) := dk_132 4 1 (dk_at dksX6_next_5 19 rfl rfl)
theorem dX6_next_141 : decode cX6_next 141 = .ok (.goto (-96), 3) := dk_167 255 160 (dk_at dksX6_next_6 0 rfl rfl)
theorem dX6_next_144 : decode cX6_next 144 = .ok (.iinc 3 1, 3) := dk_132 3 1 (dk_at dksX6_next_6 3 rfl rfl)
theorem dX6_next_147 : decode cX6_next 147 = .ok (.goto (-111), 3) := dk_167 255 145 (dk_at dksX6_next_6 6 rfl rfl)
theorem dX6_next_150 : decode cX6_next 150 = .ok (.iinc 2 1, 3) := dk_132 2 1 (dk_at dksX6_next_6 9 rfl rfl)
theorem dX6_next_153 : decode cX6_next 153 = .ok (.goto (-125), 3) := dk_167 255 131 (dk_at dksX6_next_6 12 rfl rfl)
theorem dX6_next_156 : decode cX6_next 156 = .ok (.iload_n 1, 1) := dk_27 (dk_at dksX6_next_6 15 rfl rfl)
theorem dX6_next_157 : decode cX6_next 157 = .ok (.istore_n 2, 1) := dk_61 (dk_at dksX6_next_6 16 rfl rfl)
theorem dX6_next_158 : decode cX6_next 158 = .ok (.iconst (-1), 1) := dk_2 (dk_at dksX6_next_6 17 rfl rfl)
theorem dX6_next_159 : decode cX6_next 159 = .ok (.istore_n 3, 1) := dk_62 (dk_at dksX6_next_6 18 rfl rfl)
theorem dX6_next_160 : decode cX6_next 160 = .ok (.iconst 1, 1) := dk_4 (dk_at dksX6_next_6 19 rfl rfl)
theorem dX6_next_161 : decode cX6_next 161 = .ok (.istore 4, 2) := dk_54 4 (dk_at dksX6_next_6 20 rfl rfl)
theorem dX6_next_163 : decode cX6_next 163 = .ok (.iload 4, 2) := dk_21 4 (dk_at dksX6_next_6 22 rfl rfl)
theorem dX6_next_165 : decode cX6_next 165 = .ok (.bipush 15, 2) := dk_16 15 (dk_at dksX6_next_7 0 rfl rfl)
theorem dX6_next_167 : decode cX6_next 167 = .ok (.if_icmp .gt 79, 3) := dk_163 0 79 (dk_at dksX6_next_7 2 rfl rfl)
theorem dX6_next_170 : decode cX6_next 170 = .ok (.iconst 1, 1) := dk_4 (dk_at dksX6_next_7 5 rfl rfl)
theorem dX6_next_171 : decode cX6_next 171 = .ok (.istore 5, 2) := dk_54 5 (dk_at dksX6_next_7 6 rfl rfl)
theorem dX6_next_173 : decode cX6_next 173 = .ok (.iload 5, 2) := dk_21 5 (dk_at dksX6_next_7 8 rfl rfl)
theorem dX6_next_175 : decode cX6_next 175 = .ok (.bipush 30, 2) := dk_16 30 (dk_at dksX6_next_7 10 rfl rfl)
theorem dX6_next_177 : decode cX6_next 177 = .ok (.if_icmp .gt 63, 3) := dk_163 0 63 (dk_at dksX6_next_7 12 rfl rfl)
theorem dX6_next_180 : decode cX6_next 180 = .ok (.aload_n 0, 1) := dk_42 (dk_at dksX6_next_7 15 rfl rfl)
theorem dX6_next_181 : decode cX6_next 181 = .ok (.getfield 305, 3) := dk_180 1 49 (dk_at dksX6_next_7 16 rfl rfl)
theorem dX6_next_184 : decode cX6_next 184 = .ok (.bipush 31, 2) := dk_16 31 (dk_at dksX6_next_7 19 rfl rfl)
theorem dX6_next_186 : decode cX6_next 186 = .ok (.iload 4, 2) := dk_21 4 (dk_at dksX6_next_7 21 rfl rfl)
theorem dX6_next_188 : decode cX6_next 188 = .ok (.imul, 1) := dk_104 (dk_at dksX6_next_7 23 rfl rfl)
theorem dX6_next_189 : decode cX6_next 189 = .ok (.iload 5, 2) := dk_21 5 (dk_at dksX6_next_8 0 rfl rfl)
theorem dX6_next_191 : decode cX6_next 191 = .ok (.iadd, 1) := dk_96 (dk_at dksX6_next_8 2 rfl rfl)
theorem dX6_next_192 : decode cX6_next 192 = .ok (.iaload, 1) := dk_46 (dk_at dksX6_next_8 3 rfl rfl)
theorem dX6_next_193 : decode cX6_next 193 = .ok (.iload_n 1, 1) := dk_27 (dk_at dksX6_next_8 4 rfl rfl)
theorem dX6_next_194 : decode cX6_next 194 = .ok (.aload_n 0, 1) := dk_42 (dk_at dksX6_next_8 5 rfl rfl)
theorem dX6_next_195 : decode cX6_next 195 = .ok (.getfield 305, 3) := dk_180 1 49 (dk_at dksX6_next_8 6 rfl rfl)
theorem dX6_next_198 : decode cX6_next 198 = .ok (.bipush 31, 2) := dk_16 31 (dk_at dksX6_next_8 9 rfl rfl)
theorem dX6_next_200 : decode cX6_next 200 = .ok (.iload 4, 2) := dk_21 4 (dk_at dksX6_next_8 11 rfl rfl)
theorem dX6_next_202 : decode cX6_next 202 = .ok (.imul, 1) := dk_104 (dk_at dksX6_next_8 13 rfl rfl)
theorem dX6_next_203 : decode cX6_next 203 = .ok (.iload 5, 2) := dk_21 5 (dk_at dksX6_next_8 14 rfl rfl)
theorem dX6_next_205 : decode cX6_next 205 = .ok (.iadd, 1) := dk_96 (dk_at dksX6_next_8 16 rfl rfl)
theorem dX6_next_206 : decode cX6_next 206 = .ok (.iaload, 1) := dk_46 (dk_at dksX6_next_8 17 rfl rfl)
theorem dX6_next_207 : decode cX6_next 207 = .ok (.isub, 1) := dk_100 (dk_at dksX6_next_8 18 rfl rfl)
theorem dX6_next_208 : decode cX6_next 208 = .ok (.invokestatic 359, 3) := dk_184 1 103 (dk_at dksX6_next_8 19 rfl rfl)
theorem dX6_next_211 : decode cX6_next 211 = .ok (.istore 6, 2) := dk_54 6 (dk_at dksX6_next_8 22 rfl rfl)
theorem dX6_next_213 : decode cX6_next 213 = .ok (.iload 6, 2) := dk_21 6 (dk_at dksX6_next_9 0 rfl rfl)
theorem dX6_next_215 : decode cX6_next 215 = .ok (.iload_n 2, 1) := dk_28 (dk_at dksX6_next_9 2 rfl rfl)
theorem dX6_next_216 : decode cX6_next 216 = .ok (.if_icmp .lt 6, 3) := dk_161 0 6 (dk_at dksX6_next_9 3 rfl rfl)
theorem dX6_next_219 : decode cX6_next 219 = .ok (.goto 15, 3) := dk_167 0 15 (dk_at dksX6_next_9 6 rfl rfl)
theorem dX6_next_222 : decode cX6_next 222 = .ok (.iload 6, 2) := dk_21 6 (dk_at dksX6_next_9 9 rfl rfl)
theorem dX6_next_224 : decode cX6_next 224 = .ok (.istore_n 2, 1) := dk_61 (dk_at dksX6_next_9 11 rfl rfl)
theorem dX6_next_225 : decode cX6_next 225 = .ok (.bipush 100, 2) := dk_16 100 (dk_at dksX6_next_9 12 rfl rfl)
theorem dX6_next_227 : decode cX6_next 227 = .ok (.iload 4, 2) := dk_21 4 (dk_at dksX6_next_9 14 rfl rfl)
theorem dX6_next_229 : decode cX6_next 229 = .ok (.imul, 1) := dk_104 (dk_at dksX6_next_9 16 rfl rfl)
theorem dX6_next_230 : decode cX6_next 230 = .ok (.iload 5, 2) := dk_21 5 (dk_at dksX6_next_9 17 rfl rfl)
theorem dX6_next_232 : decode cX6_next 232 = .ok (.iadd, 1) := dk_96 (dk_at dksX6_next_9 19 rfl rfl)
theorem dX6_next_233 : decode cX6_next 233 = .ok (.istore_n 3, 1) := dk_62 (dk_at dksX6_next_9 20 rfl rfl)
theorem dX6_next_234 : decode cX6_next 234 = .ok (.iinc 5 1, 3) := dk_132 5 1 (dk_at dksX6_next_9 21 rfl rfl)
theorem dX6_next_237 : decode cX6_next 237 = .ok (.goto (-64), 3) := dk_167 255 192 (dk_at dksX6_next_10 0 rfl rfl)
theorem dX6_next_240 : decode cX6_next 240 = .ok (.iinc 4 1, 3) := dk_132 4 1 (dk_at dksX6_next_10 3 rfl rfl)
theorem dX6_next_243 : decode cX6_next 243 = .ok (.goto (-80), 3) := dk_167 255 176 (dk_at dksX6_next_10 6 rfl rfl)
theorem dX6_next_246 : decode cX6_next 246 = .ok (.iload_n 3, 1) := dk_29 (dk_at dksX6_next_10 9 rfl rfl)
theorem dX6_next_247 : decode cX6_next 247 = .ok (.ireturn, 1) := dk_172 (dk_at dksX6_next_10 10 rfl rfl)
abbrev cX6_last : ByteArray := prog_16_method_86_code
def yX6_last : MethodName := ⟨RX6, "last", "(IIII)I"⟩
def dkwX6_last_3 : List UInt8 := [21, 4, 182, 1, 226, 172]
abbrev dktX6_last_3 : List UInt8 := dkwX6_last_3 ++ []
def dkwX6_last_2 : List UInt8 := [21, 5, 21, 4, 162, 0, 17, 42, 42, 180, 1, 16, 182, 1, 166, 132, 5, 1, 167, 255, 238, 42, 27]
abbrev dktX6_last_2 : List UInt8 := dkwX6_last_2 ++ dktX6_last_3
def dkwX6_last_1 : List UInt8 := [155, 0, 11, 21, 4, 184, 1, 219, 154, 0, 6, 16, 254, 172, 42, 28, 29, 182, 1, 222, 3, 54, 5]
abbrev dktX6_last_1 : List UInt8 := dkwX6_last_1 ++ dktX6_last_2
def dkwX6_last_0 : List UInt8 := [42, 27, 182, 1, 171, 153, 0, 28, 28, 2, 159, 0, 11, 42, 28, 182, 1, 95, 153, 0, 15, 29]
abbrev dktX6_last_0 : List UInt8 := dkwX6_last_0 ++ dktX6_last_1
theorem dksX6_last_0 : cX6_last.data.toList.drop 0 = dktX6_last_0 := by decide +kernel
theorem dksX6_last_1 : cX6_last.data.toList.drop 22 = dktX6_last_1 := dk_seg dksX6_last_0 22 rfl rfl
theorem dksX6_last_2 : cX6_last.data.toList.drop 45 = dktX6_last_2 := dk_seg dksX6_last_1 23 rfl rfl
theorem dksX6_last_3 : cX6_last.data.toList.drop 68 = dktX6_last_3 := dk_seg dksX6_last_2 23 rfl rfl
theorem dX6_last_0 : decode cX6_last 0 = .ok (.aload_n 0, 1) := dk_42 (dk_at dksX6_last_0 0 rfl rfl)
theorem dX6_last_1 : decode cX6_last 1 = .ok (.iload_n 1, 1) := dk_27 (dk_at dksX6_last_0 1 rfl rfl)
theorem dX6_last_2 : decode cX6_last 2 = .ok (.invokevirtual 427, 3) := dk_182 1 171 (dk_at dksX6_last_0 2 rfl rfl)
theorem dX6_last_5 : decode cX6_last 5 = .ok (.ifCond .eq 28, 3) := dk_153 0 28 (dk_at dksX6_last_0 5 rfl rfl)
theorem dX6_last_8 : decode cX6_last 8 = .ok (.iload_n 2, 1) := dk_28 (dk_at dksX6_last_0 8 rfl rfl)
theorem dX6_last_9 : decode cX6_last 9 = .ok (.iconst (-1), 1) := dk_2 (dk_at dksX6_last_0 9 rfl rfl)
theorem dX6_last_10 : decode cX6_last 10 = .ok (.if_icmp .eq 11, 3) := dk_159 0 11 (dk_at dksX6_last_0 10 rfl rfl)
theorem dX6_last_13 : decode cX6_last 13 = .ok (.aload_n 0, 1) := dk_42 (dk_at dksX6_last_0 13 rfl rfl)
theorem dX6_last_14 : decode cX6_last 14 = .ok (.iload_n 2, 1) := dk_28 (dk_at dksX6_last_0 14 rfl rfl)
theorem dX6_last_15 : decode cX6_last 15 = .ok (.invokevirtual 351, 3) := dk_182 1 95 (dk_at dksX6_last_0 15 rfl rfl)
theorem dX6_last_18 : decode cX6_last 18 = .ok (.ifCond .eq 15, 3) := dk_153 0 15 (dk_at dksX6_last_0 18 rfl rfl)
theorem dX6_last_21 : decode cX6_last 21 = .ok (.iload_n 3, 1) := dk_29 (dk_at dksX6_last_0 21 rfl rfl)
theorem dX6_last_22 : decode cX6_last 22 = .ok (.ifCond .lt 11, 3) := dk_155 0 11 (dk_at dksX6_last_1 0 rfl rfl)
theorem dX6_last_25 : decode cX6_last 25 = .ok (.iload 4, 2) := dk_21 4 (dk_at dksX6_last_1 3 rfl rfl)
theorem dX6_last_27 : decode cX6_last 27 = .ok (.invokestatic 475, 3) := dk_184 1 219 (dk_at dksX6_last_1 5 rfl rfl)
theorem dX6_last_30 : decode cX6_last 30 = .ok (.ifCond .ne 6, 3) := dk_154 0 6 (dk_at dksX6_last_1 8 rfl rfl)
theorem dX6_last_33 : decode cX6_last 33 = .ok (.bipush (-2), 2) := dk_16 254 (dk_at dksX6_last_1 11 rfl rfl)
theorem dX6_last_35 : decode cX6_last 35 = .ok (.ireturn, 1) := dk_172 (dk_at dksX6_last_1 13 rfl rfl)
theorem dX6_last_36 : decode cX6_last 36 = .ok (.aload_n 0, 1) := dk_42 (dk_at dksX6_last_1 14 rfl rfl)
theorem dX6_last_37 : decode cX6_last 37 = .ok (.iload_n 2, 1) := dk_28 (dk_at dksX6_last_1 15 rfl rfl)
theorem dX6_last_38 : decode cX6_last 38 = .ok (.iload_n 3, 1) := dk_29 (dk_at dksX6_last_1 16 rfl rfl)
theorem dX6_last_39 : decode cX6_last 39 = .ok (.invokevirtual 478, 3) := dk_182 1 222 (dk_at dksX6_last_1 17 rfl rfl)
theorem dX6_last_42 : decode cX6_last 42 = .ok (.iconst 0, 1) := dk_3 (dk_at dksX6_last_1 20 rfl rfl)
theorem dX6_last_43 : decode cX6_last 43 = .ok (.istore 5, 2) := dk_54 5 (dk_at dksX6_last_1 21 rfl rfl)
theorem dX6_last_45 : decode cX6_last 45 = .ok (.iload 5, 2) := dk_21 5 (dk_at dksX6_last_2 0 rfl rfl)
theorem dX6_last_47 : decode cX6_last 47 = .ok (.iload 4, 2) := dk_21 4 (dk_at dksX6_last_2 2 rfl rfl)
theorem dX6_last_49 : decode cX6_last 49 = .ok (.if_icmp .ge 17, 3) := dk_162 0 17 (dk_at dksX6_last_2 4 rfl rfl)
theorem dX6_last_52 : decode cX6_last 52 = .ok (.aload_n 0, 1) := dk_42 (dk_at dksX6_last_2 7 rfl rfl)
theorem dX6_last_53 : decode cX6_last 53 = .ok (.aload_n 0, 1) := dk_42 (dk_at dksX6_last_2 8 rfl rfl)
theorem dX6_last_54 : decode cX6_last 54 = .ok (.getfield 272, 3) := dk_180 1 16 (dk_at dksX6_last_2 9 rfl rfl)
theorem dX6_last_57 : decode cX6_last 57 = .ok (.invokevirtual 422, 3) := dk_182 1 166 (dk_at dksX6_last_2 12 rfl rfl)
theorem dX6_last_60 : decode cX6_last 60 = .ok (.iinc 5 1, 3) := dk_132 5 1 (dk_at dksX6_last_2 15 rfl rfl)
theorem dX6_last_63 : decode cX6_last 63 = .ok (.goto (-18), 3) := dk_167 255 238 (dk_at dksX6_last_2 18 rfl rfl)
theorem dX6_last_66 : decode cX6_last 66 = .ok (.aload_n 0, 1) := dk_42 (dk_at dksX6_last_2 21 rfl rfl)
theorem dX6_last_67 : decode cX6_last 67 = .ok (.iload_n 1, 1) := dk_27 (dk_at dksX6_last_2 22 rfl rfl)
theorem dX6_last_68 : decode cX6_last 68 = .ok (.iload 4, 2) := dk_21 4 (dk_at dksX6_last_3 0 rfl rfl)
theorem dX6_last_70 : decode cX6_last 70 = .ok (.invokevirtual 482, 3) := dk_182 1 226 (dk_at dksX6_last_3 2 rfl rfl)
theorem dX6_last_73 : decode cX6_last 73 = .ok (.ireturn, 1) := dk_172 (dk_at dksX6_last_3 5 rfl rfl)
abbrev cX6_areMinutes : ByteArray := prog_16_method_85_code
def yX6_areMinutes : MethodName := ⟨RX6, "areMinutes", "(I)Z"⟩
def dkwX6_areMinutes_0 : List UInt8 := [26, 133, 10, 20, 1, 217, 184, 0, 52, 172]
abbrev dktX6_areMinutes_0 : List UInt8 := dkwX6_areMinutes_0 ++ []
theorem dksX6_areMinutes_0 : cX6_areMinutes.data.toList.drop 0 = dktX6_areMinutes_0 := by decide +kernel
theorem dX6_areMinutes_0 : decode cX6_areMinutes 0 = .ok (.iload_n 0, 1) := dk_26 (dk_at dksX6_areMinutes_0 0 rfl rfl)
theorem dX6_areMinutes_1 : decode cX6_areMinutes 1 = .ok (.i2l, 1) := dk_133 (dk_at dksX6_areMinutes_0 1 rfl rfl)
theorem dX6_areMinutes_2 : decode cX6_areMinutes 2 = .ok (.lconst 1, 1) := dk_10 (dk_at dksX6_areMinutes_0 2 rfl rfl)
theorem dX6_areMinutes_3 : decode cX6_areMinutes 3 = .ok (.ldc2_w 473, 3) := dk_20 1 217 (dk_at dksX6_areMinutes_0 3 rfl rfl)
theorem dX6_areMinutes_6 : decode cX6_areMinutes 6 = .ok (.invokestatic 52, 3) := dk_184 0 52 (dk_at dksX6_areMinutes_0 6 rfl rfl)
theorem dX6_areMinutes_9 : decode cX6_areMinutes 9 = .ok (.ireturn, 1) := dk_172 (dk_at dksX6_areMinutes_0 9 rfl rfl)
abbrev cX6_beginTrial : ByteArray := prog_16_method_83_code
def yX6_beginTrial : MethodName := ⟨RX6, "beginTrial", "(II)V"⟩
def dkwX6_beginTrial_1 : List UInt8 := [167, 255, 234, 42, 180, 1, 16, 17, 1, 32, 28, 79, 42, 180, 1, 16, 27, 184, 1, 161, 177]
abbrev dktX6_beginTrial_1 : List UInt8 := dkwX6_beginTrial_1 ++ []
def dkwX6_beginTrial_0 : List UInt8 := [3, 62, 29, 17, 1, 33, 162, 0, 21, 42, 180, 1, 16, 29, 42, 180, 1, 13, 29, 46, 79, 132, 3, 1]
abbrev dktX6_beginTrial_0 : List UInt8 := dkwX6_beginTrial_0 ++ dktX6_beginTrial_1
theorem dksX6_beginTrial_0 : cX6_beginTrial.data.toList.drop 0 = dktX6_beginTrial_0 := by decide +kernel
theorem dksX6_beginTrial_1 : cX6_beginTrial.data.toList.drop 24 = dktX6_beginTrial_1 := dk_seg dksX6_beginTrial_0 24 rfl rfl
theorem dX6_beginTrial_0 : decode cX6_beginTrial 0 = .ok (.iconst 0, 1) := dk_3 (dk_at dksX6_beginTrial_0 0 rfl rfl)
theorem dX6_beginTrial_1 : decode cX6_beginTrial 1 = .ok (.istore_n 3, 1) := dk_62 (dk_at dksX6_beginTrial_0 1 rfl rfl)
theorem dX6_beginTrial_2 : decode cX6_beginTrial 2 = .ok (.iload_n 3, 1) := dk_29 (dk_at dksX6_beginTrial_0 2 rfl rfl)
theorem dX6_beginTrial_3 : decode cX6_beginTrial 3 = .ok (.sipush 289, 3) := dk_17 1 33 (dk_at dksX6_beginTrial_0 3 rfl rfl)
theorem dX6_beginTrial_6 : decode cX6_beginTrial 6 = .ok (.if_icmp .ge 21, 3) := dk_162 0 21 (dk_at dksX6_beginTrial_0 6 rfl rfl)
theorem dX6_beginTrial_9 : decode cX6_beginTrial 9 = .ok (.aload_n 0, 1) := dk_42 (dk_at dksX6_beginTrial_0 9 rfl rfl)
theorem dX6_beginTrial_10 : decode cX6_beginTrial 10 = .ok (.getfield 272, 3) := dk_180 1 16 (dk_at dksX6_beginTrial_0 10 rfl rfl)
theorem dX6_beginTrial_13 : decode cX6_beginTrial 13 = .ok (.iload_n 3, 1) := dk_29 (dk_at dksX6_beginTrial_0 13 rfl rfl)
theorem dX6_beginTrial_14 : decode cX6_beginTrial 14 = .ok (.aload_n 0, 1) := dk_42 (dk_at dksX6_beginTrial_0 14 rfl rfl)
theorem dX6_beginTrial_15 : decode cX6_beginTrial 15 = .ok (.getfield 269, 3) := dk_180 1 13 (dk_at dksX6_beginTrial_0 15 rfl rfl)
theorem dX6_beginTrial_18 : decode cX6_beginTrial 18 = .ok (.iload_n 3, 1) := dk_29 (dk_at dksX6_beginTrial_0 18 rfl rfl)
theorem dX6_beginTrial_19 : decode cX6_beginTrial 19 = .ok (.iaload, 1) := dk_46 (dk_at dksX6_beginTrial_0 19 rfl rfl)
theorem dX6_beginTrial_20 : decode cX6_beginTrial 20 = .ok (.iastore, 1) := dk_79 (dk_at dksX6_beginTrial_0 20 rfl rfl)
theorem dX6_beginTrial_21 : decode cX6_beginTrial 21 = .ok (.iinc 3 1, 3) := dk_132 3 1 (dk_at dksX6_beginTrial_0 21 rfl rfl)
theorem dX6_beginTrial_24 : decode cX6_beginTrial 24 = .ok (.goto (-22), 3) := dk_167 255 234 (dk_at dksX6_beginTrial_1 0 rfl rfl)
theorem dX6_beginTrial_27 : decode cX6_beginTrial 27 = .ok (.aload_n 0, 1) := dk_42 (dk_at dksX6_beginTrial_1 3 rfl rfl)
theorem dX6_beginTrial_28 : decode cX6_beginTrial 28 = .ok (.getfield 272, 3) := dk_180 1 16 (dk_at dksX6_beginTrial_1 4 rfl rfl)
theorem dX6_beginTrial_31 : decode cX6_beginTrial 31 = .ok (.sipush 288, 3) := dk_17 1 32 (dk_at dksX6_beginTrial_1 7 rfl rfl)
theorem dX6_beginTrial_34 : decode cX6_beginTrial 34 = .ok (.iload_n 2, 1) := dk_28 (dk_at dksX6_beginTrial_1 10 rfl rfl)
theorem dX6_beginTrial_35 : decode cX6_beginTrial 35 = .ok (.iastore, 1) := dk_79 (dk_at dksX6_beginTrial_1 11 rfl rfl)
theorem dX6_beginTrial_36 : decode cX6_beginTrial 36 = .ok (.aload_n 0, 1) := dk_42 (dk_at dksX6_beginTrial_1 12 rfl rfl)
theorem dX6_beginTrial_37 : decode cX6_beginTrial 37 = .ok (.getfield 272, 3) := dk_180 1 16 (dk_at dksX6_beginTrial_1 13 rfl rfl)
theorem dX6_beginTrial_40 : decode cX6_beginTrial 40 = .ok (.iload_n 1, 1) := dk_27 (dk_at dksX6_beginTrial_1 16 rfl rfl)
theorem dX6_beginTrial_41 : decode cX6_beginTrial 41 = .ok (.invokestatic 417, 3) := dk_184 1 161 (dk_at dksX6_beginTrial_1 17 rfl rfl)
theorem dX6_beginTrial_44 : decode cX6_beginTrial 44 = .ok (.return_, 1) := dk_177 (dk_at dksX6_beginTrial_1 20 rfl rfl)
abbrev cX6_lastOf : ByteArray := prog_16_method_84_code
def yX6_lastOf : MethodName := ⟨RX6, "lastOf", "(II)I"⟩
def dkwX6_lastOf_1 : List UInt8 := [27, 96, 46, 42, 180, 1, 13, 17, 1, 14, 46, 100, 184, 1, 103, 172]
abbrev dktX6_lastOf_1 : List UInt8 := dkwX6_lastOf_1 ++ []
def dkwX6_lastOf_0 : List UInt8 := [42, 180, 1, 16, 17, 1, 8, 27, 96, 46, 2, 160, 0, 5, 28, 172, 3, 42, 180, 1, 16, 17, 1, 8]
abbrev dktX6_lastOf_0 : List UInt8 := dkwX6_lastOf_0 ++ dktX6_lastOf_1
theorem dksX6_lastOf_0 : cX6_lastOf.data.toList.drop 0 = dktX6_lastOf_0 := by decide +kernel
theorem dksX6_lastOf_1 : cX6_lastOf.data.toList.drop 24 = dktX6_lastOf_1 := dk_seg dksX6_lastOf_0 24 rfl rfl
theorem dX6_lastOf_0 : decode cX6_lastOf 0 = .ok (.aload_n 0, 1) := dk_42 (dk_at dksX6_lastOf_0 0 rfl rfl)
theorem dX6_lastOf_1 : decode cX6_lastOf 1 = .ok (.getfield 272, 3) := dk_180 1 16 (dk_at dksX6_lastOf_0 1 rfl rfl)
theorem dX6_lastOf_4 : decode cX6_lastOf 4 = .ok (.sipush 264, 3) := dk_17 1 8 (dk_at dksX6_lastOf_0 4 rfl rfl)
theorem dX6_lastOf_7 : decode cX6_lastOf 7 = .ok (.iload_n 1, 1) := dk_27 (dk_at dksX6_lastOf_0 7 rfl rfl)
theorem dX6_lastOf_8 : decode cX6_lastOf 8 = .ok (.iadd, 1) := dk_96 (dk_at dksX6_lastOf_0 8 rfl rfl)
theorem dX6_lastOf_9 : decode cX6_lastOf 9 = .ok (.iaload, 1) := dk_46 (dk_at dksX6_lastOf_0 9 rfl rfl)
theorem dX6_lastOf_10 : decode cX6_lastOf 10 = .ok (.iconst (-1), 1) := dk_2 (dk_at dksX6_lastOf_0 10 rfl rfl)
theorem dX6_lastOf_11 : decode cX6_lastOf 11 = .ok (.if_icmp .ne 5, 3) := dk_160 0 5 (dk_at dksX6_lastOf_0 11 rfl rfl)
theorem dX6_lastOf_14 : decode cX6_lastOf 14 = .ok (.iload_n 2, 1) := dk_28 (dk_at dksX6_lastOf_0 14 rfl rfl)
theorem dX6_lastOf_15 : decode cX6_lastOf 15 = .ok (.ireturn, 1) := dk_172 (dk_at dksX6_lastOf_0 15 rfl rfl)
theorem dX6_lastOf_16 : decode cX6_lastOf 16 = .ok (.iconst 0, 1) := dk_3 (dk_at dksX6_lastOf_0 16 rfl rfl)
theorem dX6_lastOf_17 : decode cX6_lastOf 17 = .ok (.aload_n 0, 1) := dk_42 (dk_at dksX6_lastOf_0 17 rfl rfl)
theorem dX6_lastOf_18 : decode cX6_lastOf 18 = .ok (.getfield 272, 3) := dk_180 1 16 (dk_at dksX6_lastOf_0 18 rfl rfl)
theorem dX6_lastOf_21 : decode cX6_lastOf 21 = .ok (.sipush 264, 3) := dk_17 1 8 (dk_at dksX6_lastOf_0 21 rfl rfl)
theorem dX6_lastOf_24 : decode cX6_lastOf 24 = .ok (.iload_n 1, 1) := dk_27 (dk_at dksX6_lastOf_1 0 rfl rfl)
theorem dX6_lastOf_25 : decode cX6_lastOf 25 = .ok (.iadd, 1) := dk_96 (dk_at dksX6_lastOf_1 1 rfl rfl)
theorem dX6_lastOf_26 : decode cX6_lastOf 26 = .ok (.iaload, 1) := dk_46 (dk_at dksX6_lastOf_1 2 rfl rfl)
theorem dX6_lastOf_27 : decode cX6_lastOf 27 = .ok (.aload_n 0, 1) := dk_42 (dk_at dksX6_lastOf_1 3 rfl rfl)
theorem dX6_lastOf_28 : decode cX6_lastOf 28 = .ok (.getfield 269, 3) := dk_180 1 13 (dk_at dksX6_lastOf_1 4 rfl rfl)
theorem dX6_lastOf_31 : decode cX6_lastOf 31 = .ok (.sipush 270, 3) := dk_17 1 14 (dk_at dksX6_lastOf_1 7 rfl rfl)
theorem dX6_lastOf_34 : decode cX6_lastOf 34 = .ok (.iaload, 1) := dk_46 (dk_at dksX6_lastOf_1 10 rfl rfl)
theorem dX6_lastOf_35 : decode cX6_lastOf 35 = .ok (.isub, 1) := dk_100 (dk_at dksX6_lastOf_1 11 rfl rfl)
theorem dX6_lastOf_36 : decode cX6_lastOf 36 = .ok (.invokestatic 359, 3) := dk_184 1 103 (dk_at dksX6_lastOf_1 12 rfl rfl)
theorem dX6_lastOf_39 : decode cX6_lastOf 39 = .ok (.ireturn, 1) := dk_172 (dk_at dksX6_lastOf_1 15 rfl rfl)
abbrev cX6_pail : ByteArray := prog_16_method_91_code
def yX6_pail : MethodName := ⟨RX6, "pail", "(III)I"⟩
def dkwX6_pail_0 : List UInt8 := [42, 27, 28, 29, 182, 1, 236, 153, 0, 14, 42, 27, 5, 28, 29, 182, 1, 239, 167, 0, 5, 16, 254, 172]
abbrev dktX6_pail_0 : List UInt8 := dkwX6_pail_0 ++ []
theorem dksX6_pail_0 : cX6_pail.data.toList.drop 0 = dktX6_pail_0 := by decide +kernel
theorem dX6_pail_0 : decode cX6_pail 0 = .ok (.aload_n 0, 1) := dk_42 (dk_at dksX6_pail_0 0 rfl rfl)
theorem dX6_pail_1 : decode cX6_pail 1 = .ok (.iload_n 1, 1) := dk_27 (dk_at dksX6_pail_0 1 rfl rfl)
theorem dX6_pail_2 : decode cX6_pail 2 = .ok (.iload_n 2, 1) := dk_28 (dk_at dksX6_pail_0 2 rfl rfl)
theorem dX6_pail_3 : decode cX6_pail 3 = .ok (.iload_n 3, 1) := dk_29 (dk_at dksX6_pail_0 3 rfl rfl)
theorem dX6_pail_4 : decode cX6_pail 4 = .ok (.invokevirtual 492, 3) := dk_182 1 236 (dk_at dksX6_pail_0 4 rfl rfl)
theorem dX6_pail_7 : decode cX6_pail 7 = .ok (.ifCond .eq 14, 3) := dk_153 0 14 (dk_at dksX6_pail_0 7 rfl rfl)
theorem dX6_pail_10 : decode cX6_pail 10 = .ok (.aload_n 0, 1) := dk_42 (dk_at dksX6_pail_0 10 rfl rfl)
theorem dX6_pail_11 : decode cX6_pail 11 = .ok (.iload_n 1, 1) := dk_27 (dk_at dksX6_pail_0 11 rfl rfl)
theorem dX6_pail_12 : decode cX6_pail 12 = .ok (.iconst 2, 1) := dk_5 (dk_at dksX6_pail_0 12 rfl rfl)
theorem dX6_pail_13 : decode cX6_pail 13 = .ok (.iload_n 2, 1) := dk_28 (dk_at dksX6_pail_0 13 rfl rfl)
theorem dX6_pail_14 : decode cX6_pail 14 = .ok (.iload_n 3, 1) := dk_29 (dk_at dksX6_pail_0 14 rfl rfl)
theorem dX6_pail_15 : decode cX6_pail 15 = .ok (.invokevirtual 495, 3) := dk_182 1 239 (dk_at dksX6_pail_0 15 rfl rfl)
theorem dX6_pail_18 : decode cX6_pail 18 = .ok (.goto 5, 3) := dk_167 0 5 (dk_at dksX6_pail_0 18 rfl rfl)
theorem dX6_pail_21 : decode cX6_pail 21 = .ok (.bipush (-2), 2) := dk_16 254 (dk_at dksX6_pail_0 21 rfl rfl)
theorem dX6_pail_23 : decode cX6_pail 23 = .ok (.ireturn, 1) := dk_172 (dk_at dksX6_pail_0 23 rfl rfl)
abbrev cX6_isAsked : ByteArray := prog_16_method_90_code
def yX6_isAsked : MethodName := ⟨RX6, "isAsked", "(III)Z"⟩
def dkwX6_isAsked_1 : List UInt8 := [172]
abbrev dktX6_isAsked_1 : List UInt8 := dkwX6_isAsked_1 ++ []
def dkwX6_isAsked_0 : List UInt8 := [42, 27, 182, 1, 171, 153, 0, 18, 28, 155, 0, 14, 29, 184, 1, 219, 153, 0, 7, 4, 167, 0, 4, 3]
abbrev dktX6_isAsked_0 : List UInt8 := dkwX6_isAsked_0 ++ dktX6_isAsked_1
theorem dksX6_isAsked_0 : cX6_isAsked.data.toList.drop 0 = dktX6_isAsked_0 := by decide +kernel
theorem dksX6_isAsked_1 : cX6_isAsked.data.toList.drop 24 = dktX6_isAsked_1 := dk_seg dksX6_isAsked_0 24 rfl rfl
theorem dX6_isAsked_0 : decode cX6_isAsked 0 = .ok (.aload_n 0, 1) := dk_42 (dk_at dksX6_isAsked_0 0 rfl rfl)
theorem dX6_isAsked_1 : decode cX6_isAsked 1 = .ok (.iload_n 1, 1) := dk_27 (dk_at dksX6_isAsked_0 1 rfl rfl)
theorem dX6_isAsked_2 : decode cX6_isAsked 2 = .ok (.invokevirtual 427, 3) := dk_182 1 171 (dk_at dksX6_isAsked_0 2 rfl rfl)
theorem dX6_isAsked_5 : decode cX6_isAsked 5 = .ok (.ifCond .eq 18, 3) := dk_153 0 18 (dk_at dksX6_isAsked_0 5 rfl rfl)
theorem dX6_isAsked_8 : decode cX6_isAsked 8 = .ok (.iload_n 2, 1) := dk_28 (dk_at dksX6_isAsked_0 8 rfl rfl)
theorem dX6_isAsked_9 : decode cX6_isAsked 9 = .ok (.ifCond .lt 14, 3) := dk_155 0 14 (dk_at dksX6_isAsked_0 9 rfl rfl)
theorem dX6_isAsked_12 : decode cX6_isAsked 12 = .ok (.iload_n 3, 1) := dk_29 (dk_at dksX6_isAsked_0 12 rfl rfl)
theorem dX6_isAsked_13 : decode cX6_isAsked 13 = .ok (.invokestatic 475, 3) := dk_184 1 219 (dk_at dksX6_isAsked_0 13 rfl rfl)
theorem dX6_isAsked_16 : decode cX6_isAsked 16 = .ok (.ifCond .eq 7, 3) := dk_153 0 7 (dk_at dksX6_isAsked_0 16 rfl rfl)
theorem dX6_isAsked_19 : decode cX6_isAsked 19 = .ok (.iconst 1, 1) := dk_4 (dk_at dksX6_isAsked_0 19 rfl rfl)
theorem dX6_isAsked_20 : decode cX6_isAsked 20 = .ok (.goto 4, 3) := dk_167 0 4 (dk_at dksX6_isAsked_0 20 rfl rfl)
theorem dX6_isAsked_23 : decode cX6_isAsked 23 = .ok (.iconst 0, 1) := dk_3 (dk_at dksX6_isAsked_0 23 rfl rfl)
theorem dX6_isAsked_24 : decode cX6_isAsked 24 = .ok (.ireturn, 1) := dk_172 (dk_at dksX6_isAsked_1 0 rfl rfl)
abbrev cX6_bestRow : ByteArray := prog_16_method_89_code
def yX6_bestRow : MethodName := ⟨RX6, "bestRow", "(IIII)I"⟩
def dkwX6_bestRow_3 : List UInt8 := [21, 7, 104, 21, 5, 5, 21, 8, 104, 122, 6, 126, 96, 54, 7, 132, 8, 255, 167, 255, 231, 21, 7, 172]
abbrev dktX6_bestRow_3 : List UInt8 := dkwX6_bestRow_3 ++ []
def dkwX6_bestRow_2 : List UInt8 := [54, 5, 132, 7, 1, 167, 255, 212, 3, 54, 7, 28, 4, 100, 54, 8, 21, 8, 155, 0, 26, 16, 10]
abbrev dktX6_bestRow_2 : List UInt8 := dkwX6_bestRow_2 ++ dktX6_bestRow_3
def dkwX6_bestRow_1 : List UInt8 := [29, 21, 4, 182, 1, 232, 54, 8, 21, 8, 21, 6, 163, 0, 6, 167, 0, 11, 21, 8, 54, 6, 21, 7]
abbrev dktX6_bestRow_1 : List UInt8 := dkwX6_bestRow_1 ++ dktX6_bestRow_2
def dkwX6_bestRow_0 : List UInt8 := [3, 54, 5, 2, 54, 6, 3, 54, 7, 21, 7, 4, 5, 28, 104, 120, 162, 0, 40, 42, 27, 28, 21, 7]
abbrev dktX6_bestRow_0 : List UInt8 := dkwX6_bestRow_0 ++ dktX6_bestRow_1
theorem dksX6_bestRow_0 : cX6_bestRow.data.toList.drop 0 = dktX6_bestRow_0 := by decide +kernel
theorem dksX6_bestRow_1 : cX6_bestRow.data.toList.drop 24 = dktX6_bestRow_1 := dk_seg dksX6_bestRow_0 24 rfl rfl
theorem dksX6_bestRow_2 : cX6_bestRow.data.toList.drop 48 = dktX6_bestRow_2 := dk_seg dksX6_bestRow_1 24 rfl rfl
theorem dksX6_bestRow_3 : cX6_bestRow.data.toList.drop 71 = dktX6_bestRow_3 := dk_seg dksX6_bestRow_2 23 rfl rfl
theorem dX6_bestRow_0 : decode cX6_bestRow 0 = .ok (.iconst 0, 1) := dk_3 (dk_at dksX6_bestRow_0 0 rfl rfl)
theorem dX6_bestRow_1 : decode cX6_bestRow 1 = .ok (.istore 5, 2) := dk_54 5 (dk_at dksX6_bestRow_0 1 rfl rfl)
theorem dX6_bestRow_3 : decode cX6_bestRow 3 = .ok (.iconst (-1), 1) := dk_2 (dk_at dksX6_bestRow_0 3 rfl rfl)
theorem dX6_bestRow_4 : decode cX6_bestRow 4 = .ok (.istore 6, 2) := dk_54 6 (dk_at dksX6_bestRow_0 4 rfl rfl)
theorem dX6_bestRow_6 : decode cX6_bestRow 6 = .ok (.iconst 0, 1) := dk_3 (dk_at dksX6_bestRow_0 6 rfl rfl)
theorem dX6_bestRow_7 : decode cX6_bestRow 7 = .ok (.istore 7, 2) := dk_54 7 (dk_at dksX6_bestRow_0 7 rfl rfl)
theorem dX6_bestRow_9 : decode cX6_bestRow 9 = .ok (.iload 7, 2) := dk_21 7 (dk_at dksX6_bestRow_0 9 rfl rfl)
theorem dX6_bestRow_11 : decode cX6_bestRow 11 = .ok (.iconst 1, 1) := dk_4 (dk_at dksX6_bestRow_0 11 rfl rfl)
theorem dX6_bestRow_12 : decode cX6_bestRow 12 = .ok (.iconst 2, 1) := dk_5 (dk_at dksX6_bestRow_0 12 rfl rfl)
theorem dX6_bestRow_13 : decode cX6_bestRow 13 = .ok (.iload_n 2, 1) := dk_28 (dk_at dksX6_bestRow_0 13 rfl rfl)
theorem dX6_bestRow_14 : decode cX6_bestRow 14 = .ok (.imul, 1) := dk_104 (dk_at dksX6_bestRow_0 14 rfl rfl)
theorem dX6_bestRow_15 : decode cX6_bestRow 15 = .ok (.ishl, 1) := dk_120 (dk_at dksX6_bestRow_0 15 rfl rfl)
theorem dX6_bestRow_16 : decode cX6_bestRow 16 = .ok (.if_icmp .ge 40, 3) := dk_162 0 40 (dk_at dksX6_bestRow_0 16 rfl rfl)
theorem dX6_bestRow_19 : decode cX6_bestRow 19 = .ok (.aload_n 0, 1) := dk_42 (dk_at dksX6_bestRow_0 19 rfl rfl)
theorem dX6_bestRow_20 : decode cX6_bestRow 20 = .ok (.iload_n 1, 1) := dk_27 (dk_at dksX6_bestRow_0 20 rfl rfl)
theorem dX6_bestRow_21 : decode cX6_bestRow 21 = .ok (.iload_n 2, 1) := dk_28 (dk_at dksX6_bestRow_0 21 rfl rfl)
theorem dX6_bestRow_22 : decode cX6_bestRow 22 = .ok (.iload 7, 2) := dk_21 7 (dk_at dksX6_bestRow_0 22 rfl rfl)
theorem dX6_bestRow_24 : decode cX6_bestRow 24 = .ok (.iload_n 3, 1) := dk_29 (dk_at dksX6_bestRow_1 0 rfl rfl)
theorem dX6_bestRow_25 : decode cX6_bestRow 25 = .ok (.iload 4, 2) := dk_21 4 (dk_at dksX6_bestRow_1 1 rfl rfl)
theorem dX6_bestRow_27 : decode cX6_bestRow 27 = .ok (.invokevirtual 488, 3) := dk_182 1 232 (dk_at dksX6_bestRow_1 3 rfl rfl)
theorem dX6_bestRow_30 : decode cX6_bestRow 30 = .ok (.istore 8, 2) := dk_54 8 (dk_at dksX6_bestRow_1 6 rfl rfl)
theorem dX6_bestRow_32 : decode cX6_bestRow 32 = .ok (.iload 8, 2) := dk_21 8 (dk_at dksX6_bestRow_1 8 rfl rfl)
theorem dX6_bestRow_34 : decode cX6_bestRow 34 = .ok (.iload 6, 2) := dk_21 6 (dk_at dksX6_bestRow_1 10 rfl rfl)
theorem dX6_bestRow_36 : decode cX6_bestRow 36 = .ok (.if_icmp .gt 6, 3) := dk_163 0 6 (dk_at dksX6_bestRow_1 12 rfl rfl)
theorem dX6_bestRow_39 : decode cX6_bestRow 39 = .ok (.goto 11, 3) := dk_167 0 11 (dk_at dksX6_bestRow_1 15 rfl rfl)
theorem dX6_bestRow_42 : decode cX6_bestRow 42 = .ok (.iload 8, 2) := dk_21 8 (dk_at dksX6_bestRow_1 18 rfl rfl)
theorem dX6_bestRow_44 : decode cX6_bestRow 44 = .ok (.istore 6, 2) := dk_54 6 (dk_at dksX6_bestRow_1 20 rfl rfl)
theorem dX6_bestRow_46 : decode cX6_bestRow 46 = .ok (.iload 7, 2) := dk_21 7 (dk_at dksX6_bestRow_1 22 rfl rfl)
theorem dX6_bestRow_48 : decode cX6_bestRow 48 = .ok (.istore 5, 2) := dk_54 5 (dk_at dksX6_bestRow_2 0 rfl rfl)
theorem dX6_bestRow_50 : decode cX6_bestRow 50 = .ok (.iinc 7 1, 3) := dk_132 7 1 (dk_at dksX6_bestRow_2 2 rfl rfl)
theorem dX6_bestRow_53 : decode cX6_bestRow 53 = .ok (.goto (-44), 3) := dk_167 255 212 (dk_at dksX6_bestRow_2 5 rfl rfl)
theorem dX6_bestRow_56 : decode cX6_bestRow 56 = .ok (.iconst 0, 1) := dk_3 (dk_at dksX6_bestRow_2 8 rfl rfl)
theorem dX6_bestRow_57 : decode cX6_bestRow 57 = .ok (.istore 7, 2) := dk_54 7 (dk_at dksX6_bestRow_2 9 rfl rfl)
theorem dX6_bestRow_59 : decode cX6_bestRow 59 = .ok (.iload_n 2, 1) := dk_28 (dk_at dksX6_bestRow_2 11 rfl rfl)
theorem dX6_bestRow_60 : decode cX6_bestRow 60 = .ok (.iconst 1, 1) := dk_4 (dk_at dksX6_bestRow_2 12 rfl rfl)
theorem dX6_bestRow_61 : decode cX6_bestRow 61 = .ok (.isub, 1) := dk_100 (dk_at dksX6_bestRow_2 13 rfl rfl)
theorem dX6_bestRow_62 : decode cX6_bestRow 62 = .ok (.istore 8, 2) := dk_54 8 (dk_at dksX6_bestRow_2 14 rfl rfl)
theorem dX6_bestRow_64 : decode cX6_bestRow 64 = .ok (.iload 8, 2) := dk_21 8 (dk_at dksX6_bestRow_2 16 rfl rfl)
theorem dX6_bestRow_66 : decode cX6_bestRow 66 = .ok (.ifCond .lt 26, 3) := dk_155 0 26 (dk_at dksX6_bestRow_2 18 rfl rfl)
theorem dX6_bestRow_69 : decode cX6_bestRow 69 = .ok (.bipush 10, 2) := dk_16 10 (dk_at dksX6_bestRow_2 21 rfl rfl)
theorem dX6_bestRow_71 : decode cX6_bestRow 71 = .ok (.iload 7, 2) := dk_21 7 (dk_at dksX6_bestRow_3 0 rfl rfl)
theorem dX6_bestRow_73 : decode cX6_bestRow 73 = .ok (.imul, 1) := dk_104 (dk_at dksX6_bestRow_3 2 rfl rfl)
theorem dX6_bestRow_74 : decode cX6_bestRow 74 = .ok (.iload 5, 2) := dk_21 5 (dk_at dksX6_bestRow_3 3 rfl rfl)
theorem dX6_bestRow_76 : decode cX6_bestRow 76 = .ok (.iconst 2, 1) := dk_5 (dk_at dksX6_bestRow_3 5 rfl rfl)
theorem dX6_bestRow_77 : decode cX6_bestRow 77 = .ok (.iload 8, 2) := dk_21 8 (dk_at dksX6_bestRow_3 6 rfl rfl)
theorem dX6_bestRow_79 : decode cX6_bestRow 79 = .ok (.imul, 1) := dk_104 (dk_at dksX6_bestRow_3 8 rfl rfl)
theorem dX6_bestRow_80 : decode cX6_bestRow 80 = .ok (.ishr, 1) := dk_122 (dk_at dksX6_bestRow_3 9 rfl rfl)
theorem dX6_bestRow_81 : decode cX6_bestRow 81 = .ok (.iconst 3, 1) := dk_6 (dk_at dksX6_bestRow_3 10 rfl rfl)
theorem dX6_bestRow_82 : decode cX6_bestRow 82 = .ok (.iand, 1) := dk_126 (dk_at dksX6_bestRow_3 11 rfl rfl)
theorem dX6_bestRow_83 : decode cX6_bestRow 83 = .ok (.iadd, 1) := dk_96 (dk_at dksX6_bestRow_3 12 rfl rfl)
theorem dX6_bestRow_84 : decode cX6_bestRow 84 = .ok (.istore 7, 2) := dk_54 7 (dk_at dksX6_bestRow_3 13 rfl rfl)
theorem dX6_bestRow_86 : decode cX6_bestRow 86 = .ok (.iinc 8 (-1), 3) := dk_132 8 255 (dk_at dksX6_bestRow_3 15 rfl rfl)
theorem dX6_bestRow_89 : decode cX6_bestRow 89 = .ok (.goto (-25), 3) := dk_167 255 231 (dk_at dksX6_bestRow_3 18 rfl rfl)
theorem dX6_bestRow_92 : decode cX6_bestRow 92 = .ok (.iload 7, 2) := dk_21 7 (dk_at dksX6_bestRow_3 21 rfl rfl)
theorem dX6_bestRow_94 : decode cX6_bestRow 94 = .ok (.ireturn, 1) := dk_172 (dk_at dksX6_bestRow_3 23 rfl rfl)
abbrev cX6_lastByRow : ByteArray := prog_16_method_88_code
def yX6_lastByRow : MethodName := ⟨RX6, "lastByRow", "(IIIII)I"⟩
def dkwX6_lastByRow_2 : List UInt8 := [132, 6, 1, 167, 255, 215, 42, 27, 21, 5, 182, 1, 226, 172]
abbrev dktX6_lastByRow_2 : List UInt8 := dkwX6_lastByRow_2 ++ []
def dkwX6_lastByRow_1 : List UInt8 := [29, 5, 28, 4, 100, 21, 6, 100, 104, 122, 6, 126, 27, 182, 1, 229, 42, 42, 180, 1, 16, 182, 1, 158]
abbrev dktX6_lastByRow_1 : List UInt8 := dkwX6_lastByRow_1 ++ dktX6_lastByRow_2
def dkwX6_lastByRow_0 : List UInt8 := [42, 2, 21, 4, 182, 1, 222, 3, 54, 6, 21, 6, 21, 5, 162, 0, 40, 21, 6, 28, 162, 0, 20, 42]
abbrev dktX6_lastByRow_0 : List UInt8 := dkwX6_lastByRow_0 ++ dktX6_lastByRow_1
theorem dksX6_lastByRow_0 : cX6_lastByRow.data.toList.drop 0 = dktX6_lastByRow_0 := by decide +kernel
theorem dksX6_lastByRow_1 : cX6_lastByRow.data.toList.drop 24 = dktX6_lastByRow_1 := dk_seg dksX6_lastByRow_0 24 rfl rfl
theorem dksX6_lastByRow_2 : cX6_lastByRow.data.toList.drop 48 = dktX6_lastByRow_2 := dk_seg dksX6_lastByRow_1 24 rfl rfl
theorem dX6_lastByRow_0 : decode cX6_lastByRow 0 = .ok (.aload_n 0, 1) := dk_42 (dk_at dksX6_lastByRow_0 0 rfl rfl)
theorem dX6_lastByRow_1 : decode cX6_lastByRow 1 = .ok (.iconst (-1), 1) := dk_2 (dk_at dksX6_lastByRow_0 1 rfl rfl)
theorem dX6_lastByRow_2 : decode cX6_lastByRow 2 = .ok (.iload 4, 2) := dk_21 4 (dk_at dksX6_lastByRow_0 2 rfl rfl)
theorem dX6_lastByRow_4 : decode cX6_lastByRow 4 = .ok (.invokevirtual 478, 3) := dk_182 1 222 (dk_at dksX6_lastByRow_0 4 rfl rfl)
theorem dX6_lastByRow_7 : decode cX6_lastByRow 7 = .ok (.iconst 0, 1) := dk_3 (dk_at dksX6_lastByRow_0 7 rfl rfl)
theorem dX6_lastByRow_8 : decode cX6_lastByRow 8 = .ok (.istore 6, 2) := dk_54 6 (dk_at dksX6_lastByRow_0 8 rfl rfl)
theorem dX6_lastByRow_10 : decode cX6_lastByRow 10 = .ok (.iload 6, 2) := dk_21 6 (dk_at dksX6_lastByRow_0 10 rfl rfl)
theorem dX6_lastByRow_12 : decode cX6_lastByRow 12 = .ok (.iload 5, 2) := dk_21 5 (dk_at dksX6_lastByRow_0 12 rfl rfl)
theorem dX6_lastByRow_14 : decode cX6_lastByRow 14 = .ok (.if_icmp .ge 40, 3) := dk_162 0 40 (dk_at dksX6_lastByRow_0 14 rfl rfl)
theorem dX6_lastByRow_17 : decode cX6_lastByRow 17 = .ok (.iload 6, 2) := dk_21 6 (dk_at dksX6_lastByRow_0 17 rfl rfl)
theorem dX6_lastByRow_19 : decode cX6_lastByRow 19 = .ok (.iload_n 2, 1) := dk_28 (dk_at dksX6_lastByRow_0 19 rfl rfl)
theorem dX6_lastByRow_20 : decode cX6_lastByRow 20 = .ok (.if_icmp .ge 20, 3) := dk_162 0 20 (dk_at dksX6_lastByRow_0 20 rfl rfl)
theorem dX6_lastByRow_23 : decode cX6_lastByRow 23 = .ok (.aload_n 0, 1) := dk_42 (dk_at dksX6_lastByRow_0 23 rfl rfl)
theorem dX6_lastByRow_24 : decode cX6_lastByRow 24 = .ok (.iload_n 3, 1) := dk_29 (dk_at dksX6_lastByRow_1 0 rfl rfl)
theorem dX6_lastByRow_25 : decode cX6_lastByRow 25 = .ok (.iconst 2, 1) := dk_5 (dk_at dksX6_lastByRow_1 1 rfl rfl)
theorem dX6_lastByRow_26 : decode cX6_lastByRow 26 = .ok (.iload_n 2, 1) := dk_28 (dk_at dksX6_lastByRow_1 2 rfl rfl)
theorem dX6_lastByRow_27 : decode cX6_lastByRow 27 = .ok (.iconst 1, 1) := dk_4 (dk_at dksX6_lastByRow_1 3 rfl rfl)
theorem dX6_lastByRow_28 : decode cX6_lastByRow 28 = .ok (.isub, 1) := dk_100 (dk_at dksX6_lastByRow_1 4 rfl rfl)
theorem dX6_lastByRow_29 : decode cX6_lastByRow 29 = .ok (.iload 6, 2) := dk_21 6 (dk_at dksX6_lastByRow_1 5 rfl rfl)
theorem dX6_lastByRow_31 : decode cX6_lastByRow 31 = .ok (.isub, 1) := dk_100 (dk_at dksX6_lastByRow_1 7 rfl rfl)
theorem dX6_lastByRow_32 : decode cX6_lastByRow 32 = .ok (.imul, 1) := dk_104 (dk_at dksX6_lastByRow_1 8 rfl rfl)
theorem dX6_lastByRow_33 : decode cX6_lastByRow 33 = .ok (.ishr, 1) := dk_122 (dk_at dksX6_lastByRow_1 9 rfl rfl)
theorem dX6_lastByRow_34 : decode cX6_lastByRow 34 = .ok (.iconst 3, 1) := dk_6 (dk_at dksX6_lastByRow_1 10 rfl rfl)
theorem dX6_lastByRow_35 : decode cX6_lastByRow 35 = .ok (.iand, 1) := dk_126 (dk_at dksX6_lastByRow_1 11 rfl rfl)
theorem dX6_lastByRow_36 : decode cX6_lastByRow 36 = .ok (.iload_n 1, 1) := dk_27 (dk_at dksX6_lastByRow_1 12 rfl rfl)
theorem dX6_lastByRow_37 : decode cX6_lastByRow 37 = .ok (.invokevirtual 485, 3) := dk_182 1 229 (dk_at dksX6_lastByRow_1 13 rfl rfl)
theorem dX6_lastByRow_40 : decode cX6_lastByRow 40 = .ok (.aload_n 0, 1) := dk_42 (dk_at dksX6_lastByRow_1 16 rfl rfl)
theorem dX6_lastByRow_41 : decode cX6_lastByRow 41 = .ok (.aload_n 0, 1) := dk_42 (dk_at dksX6_lastByRow_1 17 rfl rfl)
theorem dX6_lastByRow_42 : decode cX6_lastByRow 42 = .ok (.getfield 272, 3) := dk_180 1 16 (dk_at dksX6_lastByRow_1 18 rfl rfl)
theorem dX6_lastByRow_45 : decode cX6_lastByRow 45 = .ok (.invokevirtual 414, 3) := dk_182 1 158 (dk_at dksX6_lastByRow_1 21 rfl rfl)
theorem dX6_lastByRow_48 : decode cX6_lastByRow 48 = .ok (.iinc 6 1, 3) := dk_132 6 1 (dk_at dksX6_lastByRow_2 0 rfl rfl)
theorem dX6_lastByRow_51 : decode cX6_lastByRow 51 = .ok (.goto (-41), 3) := dk_167 255 215 (dk_at dksX6_lastByRow_2 3 rfl rfl)
theorem dX6_lastByRow_54 : decode cX6_lastByRow 54 = .ok (.aload_n 0, 1) := dk_42 (dk_at dksX6_lastByRow_2 6 rfl rfl)
theorem dX6_lastByRow_55 : decode cX6_lastByRow 55 = .ok (.iload_n 1, 1) := dk_27 (dk_at dksX6_lastByRow_2 7 rfl rfl)
theorem dX6_lastByRow_56 : decode cX6_lastByRow 56 = .ok (.iload 5, 2) := dk_21 5 (dk_at dksX6_lastByRow_2 8 rfl rfl)
theorem dX6_lastByRow_58 : decode cX6_lastByRow 58 = .ok (.invokevirtual 482, 3) := dk_182 1 226 (dk_at dksX6_lastByRow_2 10 rfl rfl)
theorem dX6_lastByRow_61 : decode cX6_lastByRow 61 = .ok (.ireturn, 1) := dk_172 (dk_at dksX6_lastByRow_2 13 rfl rfl)
abbrev cX6_works : ByteArray := prog_16_method_87_code
def yX6_works : MethodName := ⟨RX6, "works", "(II)V"⟩
def dkwX6_works_6 : List UInt8 := [182, 1, 117, 177]
abbrev dktX6_works_6 : List UInt8 := dkwX6_works_6 ++ []
def dkwX6_works_5 : List UInt8 := [29, 42, 180, 0, 201, 96, 29, 182, 1, 117, 27, 6, 160, 0, 14, 42, 42, 180, 1, 16, 5, 29, 2]
abbrev dktX6_works_5 : List UInt8 := dkwX6_works_5 ++ dktX6_works_6
def dkwX6_works_4 : List UInt8 := [180, 0, 201, 100, 29, 182, 1, 117, 27, 5, 160, 0, 24, 21, 5, 153, 0, 19, 42, 42, 180, 1, 16, 3]
abbrev dktX6_works_4 : List UInt8 := dkwX6_works_4 ++ dktX6_works_5
def dkwX6_works_3 : List UInt8 := [2, 182, 1, 117, 27, 4, 160, 0, 24, 21, 4, 153, 0, 19, 42, 42, 180, 1, 16, 3, 29, 42]
abbrev dktX6_works_3 : List UInt8 := dkwX6_works_3 ++ dktX6_works_4
def dkwX6_works_2 : List UInt8 := [3, 54, 5, 27, 154, 0, 24, 21, 4, 153, 0, 19, 42, 42, 180, 1, 16, 6, 29, 42, 180, 0, 201, 100]
abbrev dktX6_works_2 : List UInt8 := dkwX6_works_2 ++ dktX6_works_3
def dkwX6_works_1 : List UInt8 := [54, 4, 29, 42, 180, 0, 201, 96, 42, 180, 0, 201, 42, 180, 0, 204, 104, 162, 0, 7, 4, 167, 0, 4]
abbrev dktX6_works_1 : List UInt8 := dkwX6_works_1 ++ dktX6_works_2
def dkwX6_works_0 : List UInt8 := [42, 180, 1, 13, 17, 1, 0, 28, 96, 46, 62, 29, 42, 180, 0, 201, 161, 0, 7, 4, 167, 0, 4, 3]
abbrev dktX6_works_0 : List UInt8 := dkwX6_works_0 ++ dktX6_works_1
theorem dksX6_works_0 : cX6_works.data.toList.drop 0 = dktX6_works_0 := by decide +kernel
theorem dksX6_works_1 : cX6_works.data.toList.drop 24 = dktX6_works_1 := dk_seg dksX6_works_0 24 rfl rfl
theorem dksX6_works_2 : cX6_works.data.toList.drop 48 = dktX6_works_2 := dk_seg dksX6_works_1 24 rfl rfl
theorem dksX6_works_3 : cX6_works.data.toList.drop 72 = dktX6_works_3 := dk_seg dksX6_works_2 24 rfl rfl
theorem dksX6_works_4 : cX6_works.data.toList.drop 94 = dktX6_works_4 := dk_seg dksX6_works_3 22 rfl rfl
theorem dksX6_works_5 : cX6_works.data.toList.drop 118 = dktX6_works_5 := dk_seg dksX6_works_4 24 rfl rfl
theorem dksX6_works_6 : cX6_works.data.toList.drop 141 = dktX6_works_6 := dk_seg dksX6_works_5 23 rfl rfl
theorem dX6_works_0 : decode cX6_works 0 = .ok (.aload_n 0, 1) := dk_42 (dk_at dksX6_works_0 0 rfl rfl)
theorem dX6_works_1 : decode cX6_works 1 = .ok (.getfield 269, 3) := dk_180 1 13 (dk_at dksX6_works_0 1 rfl rfl)
theorem dX6_works_4 : decode cX6_works 4 = .ok (.sipush 256, 3) := dk_17 1 0 (dk_at dksX6_works_0 4 rfl rfl)
theorem dX6_works_7 : decode cX6_works 7 = .ok (.iload_n 2, 1) := dk_28 (dk_at dksX6_works_0 7 rfl rfl)
theorem dX6_works_8 : decode cX6_works 8 = .ok (.iadd, 1) := dk_96 (dk_at dksX6_works_0 8 rfl rfl)
theorem dX6_works_9 : decode cX6_works 9 = .ok (.iaload, 1) := dk_46 (dk_at dksX6_works_0 9 rfl rfl)
theorem dX6_works_10 : decode cX6_works 10 = .ok (.istore_n 3, 1) := dk_62 (dk_at dksX6_works_0 10 rfl rfl)
theorem dX6_works_11 : decode cX6_works 11 = .ok (.iload_n 3, 1) := dk_29 (dk_at dksX6_works_0 11 rfl rfl)
theorem dX6_works_12 : decode cX6_works 12 = .ok (.aload_n 0, 1) := dk_42 (dk_at dksX6_works_0 12 rfl rfl)
theorem dX6_works_13 : decode cX6_works 13 = .ok (.getfield 201, 3) := dk_180 0 201 (dk_at dksX6_works_0 13 rfl rfl)
theorem dX6_works_16 : decode cX6_works 16 = .ok (.if_icmp .lt 7, 3) := dk_161 0 7 (dk_at dksX6_works_0 16 rfl rfl)
theorem dX6_works_19 : decode cX6_works 19 = .ok (.iconst 1, 1) := dk_4 (dk_at dksX6_works_0 19 rfl rfl)
theorem dX6_works_20 : decode cX6_works 20 = .ok (.goto 4, 3) := dk_167 0 4 (dk_at dksX6_works_0 20 rfl rfl)
theorem dX6_works_23 : decode cX6_works 23 = .ok (.iconst 0, 1) := dk_3 (dk_at dksX6_works_0 23 rfl rfl)
theorem dX6_works_24 : decode cX6_works 24 = .ok (.istore 4, 2) := dk_54 4 (dk_at dksX6_works_1 0 rfl rfl)
theorem dX6_works_26 : decode cX6_works 26 = .ok (.iload_n 3, 1) := dk_29 (dk_at dksX6_works_1 2 rfl rfl)
theorem dX6_works_27 : decode cX6_works 27 = .ok (.aload_n 0, 1) := dk_42 (dk_at dksX6_works_1 3 rfl rfl)
theorem dX6_works_28 : decode cX6_works 28 = .ok (.getfield 201, 3) := dk_180 0 201 (dk_at dksX6_works_1 4 rfl rfl)
theorem dX6_works_31 : decode cX6_works 31 = .ok (.iadd, 1) := dk_96 (dk_at dksX6_works_1 7 rfl rfl)
theorem dX6_works_32 : decode cX6_works 32 = .ok (.aload_n 0, 1) := dk_42 (dk_at dksX6_works_1 8 rfl rfl)
theorem dX6_works_33 : decode cX6_works 33 = .ok (.getfield 201, 3) := dk_180 0 201 (dk_at dksX6_works_1 9 rfl rfl)
theorem dX6_works_36 : decode cX6_works 36 = .ok (.aload_n 0, 1) := dk_42 (dk_at dksX6_works_1 12 rfl rfl)
theorem dX6_works_37 : decode cX6_works 37 = .ok (.getfield 204, 3) := dk_180 0 204 (dk_at dksX6_works_1 13 rfl rfl)
theorem dX6_works_40 : decode cX6_works 40 = .ok (.imul, 1) := dk_104 (dk_at dksX6_works_1 16 rfl rfl)
theorem dX6_works_41 : decode cX6_works 41 = .ok (.if_icmp .ge 7, 3) := dk_162 0 7 (dk_at dksX6_works_1 17 rfl rfl)
theorem dX6_works_44 : decode cX6_works 44 = .ok (.iconst 1, 1) := dk_4 (dk_at dksX6_works_1 20 rfl rfl)
theorem dX6_works_45 : decode cX6_works 45 = .ok (.goto 4, 3) := dk_167 0 4 (dk_at dksX6_works_1 21 rfl rfl)
theorem dX6_works_48 : decode cX6_works 48 = .ok (.iconst 0, 1) := dk_3 (dk_at dksX6_works_2 0 rfl rfl)
theorem dX6_works_49 : decode cX6_works 49 = .ok (.istore 5, 2) := dk_54 5 (dk_at dksX6_works_2 1 rfl rfl)
theorem dX6_works_51 : decode cX6_works 51 = .ok (.iload_n 1, 1) := dk_27 (dk_at dksX6_works_2 3 rfl rfl)
theorem dX6_works_52 : decode cX6_works 52 = .ok (.ifCond .ne 24, 3) := dk_154 0 24 (dk_at dksX6_works_2 4 rfl rfl)
theorem dX6_works_55 : decode cX6_works 55 = .ok (.iload 4, 2) := dk_21 4 (dk_at dksX6_works_2 7 rfl rfl)
theorem dX6_works_57 : decode cX6_works 57 = .ok (.ifCond .eq 19, 3) := dk_153 0 19 (dk_at dksX6_works_2 9 rfl rfl)
theorem dX6_works_60 : decode cX6_works 60 = .ok (.aload_n 0, 1) := dk_42 (dk_at dksX6_works_2 12 rfl rfl)
theorem dX6_works_61 : decode cX6_works 61 = .ok (.aload_n 0, 1) := dk_42 (dk_at dksX6_works_2 13 rfl rfl)
theorem dX6_works_62 : decode cX6_works 62 = .ok (.getfield 272, 3) := dk_180 1 16 (dk_at dksX6_works_2 14 rfl rfl)
theorem dX6_works_65 : decode cX6_works 65 = .ok (.iconst 3, 1) := dk_6 (dk_at dksX6_works_2 17 rfl rfl)
theorem dX6_works_66 : decode cX6_works 66 = .ok (.iload_n 3, 1) := dk_29 (dk_at dksX6_works_2 18 rfl rfl)
theorem dX6_works_67 : decode cX6_works 67 = .ok (.aload_n 0, 1) := dk_42 (dk_at dksX6_works_2 19 rfl rfl)
theorem dX6_works_68 : decode cX6_works 68 = .ok (.getfield 201, 3) := dk_180 0 201 (dk_at dksX6_works_2 20 rfl rfl)
theorem dX6_works_71 : decode cX6_works 71 = .ok (.isub, 1) := dk_100 (dk_at dksX6_works_2 23 rfl rfl)
theorem dX6_works_72 : decode cX6_works 72 = .ok (.iconst (-1), 1) := dk_2 (dk_at dksX6_works_3 0 rfl rfl)
theorem dX6_works_73 : decode cX6_works 73 = .ok (.invokevirtual 373, 3) := dk_182 1 117 (dk_at dksX6_works_3 1 rfl rfl)
theorem dX6_works_76 : decode cX6_works 76 = .ok (.iload_n 1, 1) := dk_27 (dk_at dksX6_works_3 4 rfl rfl)
theorem dX6_works_77 : decode cX6_works 77 = .ok (.iconst 1, 1) := dk_4 (dk_at dksX6_works_3 5 rfl rfl)
theorem dX6_works_78 : decode cX6_works 78 = .ok (.if_icmp .ne 24, 3) := dk_160 0 24 (dk_at dksX6_works_3 6 rfl rfl)
theorem dX6_works_81 : decode cX6_works 81 = .ok (.iload 4, 2) := dk_21 4 (dk_at dksX6_works_3 9 rfl rfl)
theorem dX6_works_83 : decode cX6_works 83 = .ok (.ifCond .eq 19, 3) := dk_153 0 19 (dk_at dksX6_works_3 11 rfl rfl)
theorem dX6_works_86 : decode cX6_works 86 = .ok (.aload_n 0, 1) := dk_42 (dk_at dksX6_works_3 14 rfl rfl)
theorem dX6_works_87 : decode cX6_works 87 = .ok (.aload_n 0, 1) := dk_42 (dk_at dksX6_works_3 15 rfl rfl)
theorem dX6_works_88 : decode cX6_works 88 = .ok (.getfield 272, 3) := dk_180 1 16 (dk_at dksX6_works_3 16 rfl rfl)
theorem dX6_works_91 : decode cX6_works 91 = .ok (.iconst 0, 1) := dk_3 (dk_at dksX6_works_3 19 rfl rfl)
theorem dX6_works_92 : decode cX6_works 92 = .ok (.iload_n 3, 1) := dk_29 (dk_at dksX6_works_3 20 rfl rfl)
theorem dX6_works_93 : decode cX6_works 93 = .ok (.aload_n 0, 1) := dk_42 (dk_at dksX6_works_3 21 rfl rfl)
theorem dX6_works_94 : decode cX6_works 94 = .ok (.getfield 201, 3) := dk_180 0 201 (dk_at dksX6_works_4 0 rfl rfl)
theorem dX6_works_97 : decode cX6_works 97 = .ok (.isub, 1) := dk_100 (dk_at dksX6_works_4 3 rfl rfl)
theorem dX6_works_98 : decode cX6_works 98 = .ok (.iload_n 3, 1) := dk_29 (dk_at dksX6_works_4 4 rfl rfl)
theorem dX6_works_99 : decode cX6_works 99 = .ok (.invokevirtual 373, 3) := dk_182 1 117 (dk_at dksX6_works_4 5 rfl rfl)
theorem dX6_works_102 : decode cX6_works 102 = .ok (.iload_n 1, 1) := dk_27 (dk_at dksX6_works_4 8 rfl rfl)
theorem dX6_works_103 : decode cX6_works 103 = .ok (.iconst 2, 1) := dk_5 (dk_at dksX6_works_4 9 rfl rfl)
theorem dX6_works_104 : decode cX6_works 104 = .ok (.if_icmp .ne 24, 3) := dk_160 0 24 (dk_at dksX6_works_4 10 rfl rfl)
theorem dX6_works_107 : decode cX6_works 107 = .ok (.iload 5, 2) := dk_21 5 (dk_at dksX6_works_4 13 rfl rfl)
theorem dX6_works_109 : decode cX6_works 109 = .ok (.ifCond .eq 19, 3) := dk_153 0 19 (dk_at dksX6_works_4 15 rfl rfl)
theorem dX6_works_112 : decode cX6_works 112 = .ok (.aload_n 0, 1) := dk_42 (dk_at dksX6_works_4 18 rfl rfl)
theorem dX6_works_113 : decode cX6_works 113 = .ok (.aload_n 0, 1) := dk_42 (dk_at dksX6_works_4 19 rfl rfl)
theorem dX6_works_114 : decode cX6_works 114 = .ok (.getfield 272, 3) := dk_180 1 16 (dk_at dksX6_works_4 20 rfl rfl)
theorem dX6_works_117 : decode cX6_works 117 = .ok (.iconst 0, 1) := dk_3 (dk_at dksX6_works_4 23 rfl rfl)
theorem dX6_works_118 : decode cX6_works 118 = .ok (.iload_n 3, 1) := dk_29 (dk_at dksX6_works_5 0 rfl rfl)
theorem dX6_works_119 : decode cX6_works 119 = .ok (.aload_n 0, 1) := dk_42 (dk_at dksX6_works_5 1 rfl rfl)
theorem dX6_works_120 : decode cX6_works 120 = .ok (.getfield 201, 3) := dk_180 0 201 (dk_at dksX6_works_5 2 rfl rfl)
theorem dX6_works_123 : decode cX6_works 123 = .ok (.iadd, 1) := dk_96 (dk_at dksX6_works_5 5 rfl rfl)
theorem dX6_works_124 : decode cX6_works 124 = .ok (.iload_n 3, 1) := dk_29 (dk_at dksX6_works_5 6 rfl rfl)
theorem dX6_works_125 : decode cX6_works 125 = .ok (.invokevirtual 373, 3) := dk_182 1 117 (dk_at dksX6_works_5 7 rfl rfl)
theorem dX6_works_128 : decode cX6_works 128 = .ok (.iload_n 1, 1) := dk_27 (dk_at dksX6_works_5 10 rfl rfl)
theorem dX6_works_129 : decode cX6_works 129 = .ok (.iconst 3, 1) := dk_6 (dk_at dksX6_works_5 11 rfl rfl)
theorem dX6_works_130 : decode cX6_works 130 = .ok (.if_icmp .ne 14, 3) := dk_160 0 14 (dk_at dksX6_works_5 12 rfl rfl)
theorem dX6_works_133 : decode cX6_works 133 = .ok (.aload_n 0, 1) := dk_42 (dk_at dksX6_works_5 15 rfl rfl)
theorem dX6_works_134 : decode cX6_works 134 = .ok (.aload_n 0, 1) := dk_42 (dk_at dksX6_works_5 16 rfl rfl)
theorem dX6_works_135 : decode cX6_works 135 = .ok (.getfield 272, 3) := dk_180 1 16 (dk_at dksX6_works_5 17 rfl rfl)
theorem dX6_works_138 : decode cX6_works 138 = .ok (.iconst 2, 1) := dk_5 (dk_at dksX6_works_5 20 rfl rfl)
theorem dX6_works_139 : decode cX6_works 139 = .ok (.iload_n 3, 1) := dk_29 (dk_at dksX6_works_5 21 rfl rfl)
theorem dX6_works_140 : decode cX6_works 140 = .ok (.iconst (-1), 1) := dk_2 (dk_at dksX6_works_5 22 rfl rfl)
theorem dX6_works_141 : decode cX6_works 141 = .ok (.invokevirtual 373, 3) := dk_182 1 117 (dk_at dksX6_works_6 0 rfl rfl)
theorem dX6_works_144 : decode cX6_works 144 = .ok (.return_, 1) := dk_177 (dk_at dksX6_works_6 3 rfl rfl)
abbrev cX6_row : ByteArray := prog_16_method_92_code
def yX6_row : MethodName := ⟨RX6, "row", "(IIII)I"⟩
def dkwX6_row_1 : List UInt8 := [27, 28, 29, 21, 4, 182, 1, 239, 167, 0, 5, 16, 254, 172]
abbrev dktX6_row_1 : List UInt8 := dkwX6_row_1 ++ []
def dkwX6_row_0 : List UInt8 := [42, 27, 29, 21, 4, 182, 1, 236, 153, 0, 27, 28, 133, 10, 20, 1, 169, 184, 0, 52, 153, 0, 15, 42]
abbrev dktX6_row_0 : List UInt8 := dkwX6_row_0 ++ dktX6_row_1
theorem dksX6_row_0 : cX6_row.data.toList.drop 0 = dktX6_row_0 := by decide +kernel
theorem dksX6_row_1 : cX6_row.data.toList.drop 24 = dktX6_row_1 := dk_seg dksX6_row_0 24 rfl rfl
theorem dX6_row_0 : decode cX6_row 0 = .ok (.aload_n 0, 1) := dk_42 (dk_at dksX6_row_0 0 rfl rfl)
theorem dX6_row_1 : decode cX6_row 1 = .ok (.iload_n 1, 1) := dk_27 (dk_at dksX6_row_0 1 rfl rfl)
theorem dX6_row_2 : decode cX6_row 2 = .ok (.iload_n 3, 1) := dk_29 (dk_at dksX6_row_0 2 rfl rfl)
theorem dX6_row_3 : decode cX6_row 3 = .ok (.iload 4, 2) := dk_21 4 (dk_at dksX6_row_0 3 rfl rfl)
theorem dX6_row_5 : decode cX6_row 5 = .ok (.invokevirtual 492, 3) := dk_182 1 236 (dk_at dksX6_row_0 5 rfl rfl)
theorem dX6_row_8 : decode cX6_row 8 = .ok (.ifCond .eq 27, 3) := dk_153 0 27 (dk_at dksX6_row_0 8 rfl rfl)
theorem dX6_row_11 : decode cX6_row 11 = .ok (.iload_n 2, 1) := dk_28 (dk_at dksX6_row_0 11 rfl rfl)
theorem dX6_row_12 : decode cX6_row 12 = .ok (.i2l, 1) := dk_133 (dk_at dksX6_row_0 12 rfl rfl)
theorem dX6_row_13 : decode cX6_row 13 = .ok (.lconst 1, 1) := dk_10 (dk_at dksX6_row_0 13 rfl rfl)
theorem dX6_row_14 : decode cX6_row 14 = .ok (.ldc2_w 425, 3) := dk_20 1 169 (dk_at dksX6_row_0 14 rfl rfl)
theorem dX6_row_17 : decode cX6_row 17 = .ok (.invokestatic 52, 3) := dk_184 0 52 (dk_at dksX6_row_0 17 rfl rfl)
theorem dX6_row_20 : decode cX6_row 20 = .ok (.ifCond .eq 15, 3) := dk_153 0 15 (dk_at dksX6_row_0 20 rfl rfl)
theorem dX6_row_23 : decode cX6_row 23 = .ok (.aload_n 0, 1) := dk_42 (dk_at dksX6_row_0 23 rfl rfl)
theorem dX6_row_24 : decode cX6_row 24 = .ok (.iload_n 1, 1) := dk_27 (dk_at dksX6_row_1 0 rfl rfl)
theorem dX6_row_25 : decode cX6_row 25 = .ok (.iload_n 2, 1) := dk_28 (dk_at dksX6_row_1 1 rfl rfl)
theorem dX6_row_26 : decode cX6_row 26 = .ok (.iload_n 3, 1) := dk_29 (dk_at dksX6_row_1 2 rfl rfl)
theorem dX6_row_27 : decode cX6_row 27 = .ok (.iload 4, 2) := dk_21 4 (dk_at dksX6_row_1 3 rfl rfl)
theorem dX6_row_29 : decode cX6_row 29 = .ok (.invokevirtual 495, 3) := dk_182 1 239 (dk_at dksX6_row_1 5 rfl rfl)
theorem dX6_row_32 : decode cX6_row 32 = .ok (.goto 5, 3) := dk_167 0 5 (dk_at dksX6_row_1 8 rfl rfl)
theorem dX6_row_35 : decode cX6_row 35 = .ok (.bipush (-2), 2) := dk_16 254 (dk_at dksX6_row_1 11 rfl rfl)
theorem dX6_row_37 : decode cX6_row 37 = .ok (.ireturn, 1) := dk_172 (dk_at dksX6_row_1 13 rfl rfl)
abbrev cX6_again : ByteArray := prog_16_method_94_code
def yX6_again : MethodName := ⟨RX6, "again", "(III)I"⟩
def dkwX6_again_3 : List UInt8 := [172]
abbrev dktX6_again_3 : List UInt8 := dkwX6_again_3 ++ []
def dkwX6_again_2 : List UInt8 := [21, 4, 163, 0, 6, 167, 0, 11, 21, 7, 54, 4, 21, 6, 54, 5, 132, 6, 1, 167, 255, 218, 21, 5]
abbrev dktX6_again_2 : List UInt8 := dkwX6_again_2 ++ dktX6_again_3
def dkwX6_again_1 : List UInt8 := [54, 5, 3, 54, 6, 21, 6, 29, 162, 0, 38, 42, 27, 21, 6, 28, 29, 182, 1, 243, 54, 7, 21, 7]
abbrev dktX6_again_1 : List UInt8 := dkwX6_again_1 ++ dktX6_again_2
def dkwX6_again_0 : List UInt8 := [42, 27, 28, 29, 182, 1, 236, 154, 0, 6, 16, 254, 172, 42, 27, 2, 28, 29, 182, 1, 243, 54, 4, 2]
abbrev dktX6_again_0 : List UInt8 := dkwX6_again_0 ++ dktX6_again_1
theorem dksX6_again_0 : cX6_again.data.toList.drop 0 = dktX6_again_0 := by decide +kernel
theorem dksX6_again_1 : cX6_again.data.toList.drop 24 = dktX6_again_1 := dk_seg dksX6_again_0 24 rfl rfl
theorem dksX6_again_2 : cX6_again.data.toList.drop 48 = dktX6_again_2 := dk_seg dksX6_again_1 24 rfl rfl
theorem dksX6_again_3 : cX6_again.data.toList.drop 72 = dktX6_again_3 := dk_seg dksX6_again_2 24 rfl rfl
theorem dX6_again_0 : decode cX6_again 0 = .ok (.aload_n 0, 1) := dk_42 (dk_at dksX6_again_0 0 rfl rfl)
theorem dX6_again_1 : decode cX6_again 1 = .ok (.iload_n 1, 1) := dk_27 (dk_at dksX6_again_0 1 rfl rfl)
theorem dX6_again_2 : decode cX6_again 2 = .ok (.iload_n 2, 1) := dk_28 (dk_at dksX6_again_0 2 rfl rfl)
theorem dX6_again_3 : decode cX6_again 3 = .ok (.iload_n 3, 1) := dk_29 (dk_at dksX6_again_0 3 rfl rfl)
theorem dX6_again_4 : decode cX6_again 4 = .ok (.invokevirtual 492, 3) := dk_182 1 236 (dk_at dksX6_again_0 4 rfl rfl)
theorem dX6_again_7 : decode cX6_again 7 = .ok (.ifCond .ne 6, 3) := dk_154 0 6 (dk_at dksX6_again_0 7 rfl rfl)
theorem dX6_again_10 : decode cX6_again 10 = .ok (.bipush (-2), 2) := dk_16 254 (dk_at dksX6_again_0 10 rfl rfl)
theorem dX6_again_12 : decode cX6_again 12 = .ok (.ireturn, 1) := dk_172 (dk_at dksX6_again_0 12 rfl rfl)
theorem dX6_again_13 : decode cX6_again 13 = .ok (.aload_n 0, 1) := dk_42 (dk_at dksX6_again_0 13 rfl rfl)
theorem dX6_again_14 : decode cX6_again 14 = .ok (.iload_n 1, 1) := dk_27 (dk_at dksX6_again_0 14 rfl rfl)
theorem dX6_again_15 : decode cX6_again 15 = .ok (.iconst (-1), 1) := dk_2 (dk_at dksX6_again_0 15 rfl rfl)
theorem dX6_again_16 : decode cX6_again 16 = .ok (.iload_n 2, 1) := dk_28 (dk_at dksX6_again_0 16 rfl rfl)
theorem dX6_again_17 : decode cX6_again 17 = .ok (.iload_n 3, 1) := dk_29 (dk_at dksX6_again_0 17 rfl rfl)
theorem dX6_again_18 : decode cX6_again 18 = .ok (.invokevirtual 499, 3) := dk_182 1 243 (dk_at dksX6_again_0 18 rfl rfl)
theorem dX6_again_21 : decode cX6_again 21 = .ok (.istore 4, 2) := dk_54 4 (dk_at dksX6_again_0 21 rfl rfl)
theorem dX6_again_23 : decode cX6_again 23 = .ok (.iconst (-1), 1) := dk_2 (dk_at dksX6_again_0 23 rfl rfl)
theorem dX6_again_24 : decode cX6_again 24 = .ok (.istore 5, 2) := dk_54 5 (dk_at dksX6_again_1 0 rfl rfl)
theorem dX6_again_26 : decode cX6_again 26 = .ok (.iconst 0, 1) := dk_3 (dk_at dksX6_again_1 2 rfl rfl)
theorem dX6_again_27 : decode cX6_again 27 = .ok (.istore 6, 2) := dk_54 6 (dk_at dksX6_again_1 3 rfl rfl)
theorem dX6_again_29 : decode cX6_again 29 = .ok (.iload 6, 2) := dk_21 6 (dk_at dksX6_again_1 5 rfl rfl)
theorem dX6_again_31 : decode cX6_again 31 = .ok (.iload_n 3, 1) := dk_29 (dk_at dksX6_again_1 7 rfl rfl)
theorem dX6_again_32 : decode cX6_again 32 = .ok (.if_icmp .ge 38, 3) := dk_162 0 38 (dk_at dksX6_again_1 8 rfl rfl)
theorem dX6_again_35 : decode cX6_again 35 = .ok (.aload_n 0, 1) := dk_42 (dk_at dksX6_again_1 11 rfl rfl)
theorem dX6_again_36 : decode cX6_again 36 = .ok (.iload_n 1, 1) := dk_27 (dk_at dksX6_again_1 12 rfl rfl)
theorem dX6_again_37 : decode cX6_again 37 = .ok (.iload 6, 2) := dk_21 6 (dk_at dksX6_again_1 13 rfl rfl)
theorem dX6_again_39 : decode cX6_again 39 = .ok (.iload_n 2, 1) := dk_28 (dk_at dksX6_again_1 15 rfl rfl)
theorem dX6_again_40 : decode cX6_again 40 = .ok (.iload_n 3, 1) := dk_29 (dk_at dksX6_again_1 16 rfl rfl)
theorem dX6_again_41 : decode cX6_again 41 = .ok (.invokevirtual 499, 3) := dk_182 1 243 (dk_at dksX6_again_1 17 rfl rfl)
theorem dX6_again_44 : decode cX6_again 44 = .ok (.istore 7, 2) := dk_54 7 (dk_at dksX6_again_1 20 rfl rfl)
theorem dX6_again_46 : decode cX6_again 46 = .ok (.iload 7, 2) := dk_21 7 (dk_at dksX6_again_1 22 rfl rfl)
theorem dX6_again_48 : decode cX6_again 48 = .ok (.iload 4, 2) := dk_21 4 (dk_at dksX6_again_2 0 rfl rfl)
theorem dX6_again_50 : decode cX6_again 50 = .ok (.if_icmp .gt 6, 3) := dk_163 0 6 (dk_at dksX6_again_2 2 rfl rfl)
theorem dX6_again_53 : decode cX6_again 53 = .ok (.goto 11, 3) := dk_167 0 11 (dk_at dksX6_again_2 5 rfl rfl)
theorem dX6_again_56 : decode cX6_again 56 = .ok (.iload 7, 2) := dk_21 7 (dk_at dksX6_again_2 8 rfl rfl)
theorem dX6_again_58 : decode cX6_again 58 = .ok (.istore 4, 2) := dk_54 4 (dk_at dksX6_again_2 10 rfl rfl)
theorem dX6_again_60 : decode cX6_again 60 = .ok (.iload 6, 2) := dk_21 6 (dk_at dksX6_again_2 12 rfl rfl)
theorem dX6_again_62 : decode cX6_again 62 = .ok (.istore 5, 2) := dk_54 5 (dk_at dksX6_again_2 14 rfl rfl)
theorem dX6_again_64 : decode cX6_again 64 = .ok (.iinc 6 1, 3) := dk_132 6 1 (dk_at dksX6_again_2 16 rfl rfl)
theorem dX6_again_67 : decode cX6_again 67 = .ok (.goto (-38), 3) := dk_167 255 218 (dk_at dksX6_again_2 19 rfl rfl)
theorem dX6_again_70 : decode cX6_again 70 = .ok (.iload 5, 2) := dk_21 5 (dk_at dksX6_again_2 22 rfl rfl)
theorem dX6_again_72 : decode cX6_again 72 = .ok (.ireturn, 1) := dk_172 (dk_at dksX6_again_3 0 rfl rfl)
abbrev cX6_lastByWet : ByteArray := prog_16_method_93_code
def yX6_lastByWet : MethodName := ⟨RX6, "lastByWet", "(IIII)I"⟩
def dkwX6_lastByWet_2 : List UInt8 := [182, 1, 226, 172]
abbrev dktX6_lastByWet_2 : List UInt8 := dkwX6_lastByWet_2 ++ []
def dkwX6_lastByWet_1 : List UInt8 := [27, 182, 1, 229, 42, 42, 180, 1, 16, 182, 1, 158, 132, 5, 1, 167, 255, 226, 42, 27, 21, 4]
abbrev dktX6_lastByWet_1 : List UInt8 := dkwX6_lastByWet_1 ++ dktX6_lastByWet_2
def dkwX6_lastByWet_0 : List UInt8 := [42, 2, 29, 182, 1, 222, 3, 54, 5, 21, 5, 21, 4, 162, 0, 29, 21, 5, 28, 160, 0, 9, 42, 6]
abbrev dktX6_lastByWet_0 : List UInt8 := dkwX6_lastByWet_0 ++ dktX6_lastByWet_1
theorem dksX6_lastByWet_0 : cX6_lastByWet.data.toList.drop 0 = dktX6_lastByWet_0 := by decide +kernel
theorem dksX6_lastByWet_1 : cX6_lastByWet.data.toList.drop 24 = dktX6_lastByWet_1 := dk_seg dksX6_lastByWet_0 24 rfl rfl
theorem dksX6_lastByWet_2 : cX6_lastByWet.data.toList.drop 46 = dktX6_lastByWet_2 := dk_seg dksX6_lastByWet_1 22 rfl rfl
theorem dX6_lastByWet_0 : decode cX6_lastByWet 0 = .ok (.aload_n 0, 1) := dk_42 (dk_at dksX6_lastByWet_0 0 rfl rfl)
theorem dX6_lastByWet_1 : decode cX6_lastByWet 1 = .ok (.iconst (-1), 1) := dk_2 (dk_at dksX6_lastByWet_0 1 rfl rfl)
theorem dX6_lastByWet_2 : decode cX6_lastByWet 2 = .ok (.iload_n 3, 1) := dk_29 (dk_at dksX6_lastByWet_0 2 rfl rfl)
theorem dX6_lastByWet_3 : decode cX6_lastByWet 3 = .ok (.invokevirtual 478, 3) := dk_182 1 222 (dk_at dksX6_lastByWet_0 3 rfl rfl)
theorem dX6_lastByWet_6 : decode cX6_lastByWet 6 = .ok (.iconst 0, 1) := dk_3 (dk_at dksX6_lastByWet_0 6 rfl rfl)
theorem dX6_lastByWet_7 : decode cX6_lastByWet 7 = .ok (.istore 5, 2) := dk_54 5 (dk_at dksX6_lastByWet_0 7 rfl rfl)
theorem dX6_lastByWet_9 : decode cX6_lastByWet 9 = .ok (.iload 5, 2) := dk_21 5 (dk_at dksX6_lastByWet_0 9 rfl rfl)
theorem dX6_lastByWet_11 : decode cX6_lastByWet 11 = .ok (.iload 4, 2) := dk_21 4 (dk_at dksX6_lastByWet_0 11 rfl rfl)
theorem dX6_lastByWet_13 : decode cX6_lastByWet 13 = .ok (.if_icmp .ge 29, 3) := dk_162 0 29 (dk_at dksX6_lastByWet_0 13 rfl rfl)
theorem dX6_lastByWet_16 : decode cX6_lastByWet 16 = .ok (.iload 5, 2) := dk_21 5 (dk_at dksX6_lastByWet_0 16 rfl rfl)
theorem dX6_lastByWet_18 : decode cX6_lastByWet 18 = .ok (.iload_n 2, 1) := dk_28 (dk_at dksX6_lastByWet_0 18 rfl rfl)
theorem dX6_lastByWet_19 : decode cX6_lastByWet 19 = .ok (.if_icmp .ne 9, 3) := dk_160 0 9 (dk_at dksX6_lastByWet_0 19 rfl rfl)
theorem dX6_lastByWet_22 : decode cX6_lastByWet 22 = .ok (.aload_n 0, 1) := dk_42 (dk_at dksX6_lastByWet_0 22 rfl rfl)
theorem dX6_lastByWet_23 : decode cX6_lastByWet 23 = .ok (.iconst 3, 1) := dk_6 (dk_at dksX6_lastByWet_0 23 rfl rfl)
theorem dX6_lastByWet_24 : decode cX6_lastByWet 24 = .ok (.iload_n 1, 1) := dk_27 (dk_at dksX6_lastByWet_1 0 rfl rfl)
theorem dX6_lastByWet_25 : decode cX6_lastByWet 25 = .ok (.invokevirtual 485, 3) := dk_182 1 229 (dk_at dksX6_lastByWet_1 1 rfl rfl)
theorem dX6_lastByWet_28 : decode cX6_lastByWet 28 = .ok (.aload_n 0, 1) := dk_42 (dk_at dksX6_lastByWet_1 4 rfl rfl)
theorem dX6_lastByWet_29 : decode cX6_lastByWet 29 = .ok (.aload_n 0, 1) := dk_42 (dk_at dksX6_lastByWet_1 5 rfl rfl)
theorem dX6_lastByWet_30 : decode cX6_lastByWet 30 = .ok (.getfield 272, 3) := dk_180 1 16 (dk_at dksX6_lastByWet_1 6 rfl rfl)
theorem dX6_lastByWet_33 : decode cX6_lastByWet 33 = .ok (.invokevirtual 414, 3) := dk_182 1 158 (dk_at dksX6_lastByWet_1 9 rfl rfl)
theorem dX6_lastByWet_36 : decode cX6_lastByWet 36 = .ok (.iinc 5 1, 3) := dk_132 5 1 (dk_at dksX6_lastByWet_1 12 rfl rfl)
theorem dX6_lastByWet_39 : decode cX6_lastByWet 39 = .ok (.goto (-30), 3) := dk_167 255 226 (dk_at dksX6_lastByWet_1 15 rfl rfl)
theorem dX6_lastByWet_42 : decode cX6_lastByWet 42 = .ok (.aload_n 0, 1) := dk_42 (dk_at dksX6_lastByWet_1 18 rfl rfl)
theorem dX6_lastByWet_43 : decode cX6_lastByWet 43 = .ok (.iload_n 1, 1) := dk_27 (dk_at dksX6_lastByWet_1 19 rfl rfl)
theorem dX6_lastByWet_44 : decode cX6_lastByWet 44 = .ok (.iload 4, 2) := dk_21 4 (dk_at dksX6_lastByWet_1 20 rfl rfl)
theorem dX6_lastByWet_46 : decode cX6_lastByWet 46 = .ok (.invokevirtual 482, 3) := dk_182 1 226 (dk_at dksX6_lastByWet_2 0 rfl rfl)
theorem dX6_lastByWet_49 : decode cX6_lastByWet 49 = .ok (.ireturn, 1) := dk_172 (dk_at dksX6_lastByWet_2 3 rfl rfl)
abbrev cX6_stand : ByteArray := prog_16_method_96_code
def yX6_stand : MethodName := ⟨RX6, "stand", "(III)I"⟩
def dkwX6_stand_7 : List UInt8 := [167, 0, 11, 21, 7, 54, 5, 21, 6, 54, 4, 132, 6, 1, 167, 255, 119, 21, 4, 172]
abbrev dktX6_stand_7 : List UInt8 := dkwX6_stand_7 ++ []
def dkwX6_stand_6 : List UInt8 := [180, 1, 55, 29, 182, 1, 226, 96, 54, 7, 132, 8, 1, 167, 255, 181, 21, 7, 21, 5, 163, 0, 6]
abbrev dktX6_stand_6 : List UInt8 := dkwX6_stand_6 ++ dktX6_stand_7
def dkwX6_stand_5 : List UInt8 := [21, 9, 29, 162, 0, 17, 42, 42, 180, 1, 16, 182, 1, 166, 132, 9, 1, 167, 255, 239, 21, 7, 42, 42]
abbrev dktX6_stand_5 : List UInt8 := dkwX6_stand_5 ++ dktX6_stand_6
def dkwX6_stand_4 : List UInt8 := [180, 1, 16, 3, 21, 6, 96, 92, 46, 27, 96, 79, 42, 180, 1, 16, 21, 6, 184, 1, 58, 3, 54, 9]
abbrev dktX6_stand_4 : List UInt8 := dkwX6_stand_4 ++ dktX6_stand_5
def dkwX6_stand_3 : List UInt8 := [167, 0, 105, 3, 54, 7, 4, 54, 8, 21, 8, 28, 163, 0, 75, 42, 2, 21, 8, 182, 1, 222, 42]
abbrev dktX6_stand_3 : List UInt8 := dkwX6_stand_3 ++ dktX6_stand_4
def dkwX6_stand_2 : List UInt8 := [180, 0, 204, 104, 162, 0, 129, 42, 180, 1, 13, 17, 0, 192, 21, 6, 96, 46, 4, 160, 0, 6]
abbrev dktX6_stand_2 : List UInt8 := dkwX6_stand_2 ++ dktX6_stand_3
def dkwX6_stand_1 : List UInt8 := [154, 0, 6, 16, 254, 172, 2, 54, 4, 2, 54, 5, 3, 54, 6, 21, 6, 42, 180, 0, 201, 42]
abbrev dktX6_stand_1 : List UInt8 := dkwX6_stand_1 ++ dktX6_stand_2
def dkwX6_stand_0 : List UInt8 := [27, 133, 10, 20, 1, 198, 184, 0, 52, 153, 0, 17, 28, 184, 1, 248, 153, 0, 10, 29, 184, 1, 219]
abbrev dktX6_stand_0 : List UInt8 := dkwX6_stand_0 ++ dktX6_stand_1
theorem dksX6_stand_0 : cX6_stand.data.toList.drop 0 = dktX6_stand_0 := by decide +kernel
theorem dksX6_stand_1 : cX6_stand.data.toList.drop 23 = dktX6_stand_1 := dk_seg dksX6_stand_0 23 rfl rfl
theorem dksX6_stand_2 : cX6_stand.data.toList.drop 45 = dktX6_stand_2 := dk_seg dksX6_stand_1 22 rfl rfl
theorem dksX6_stand_3 : cX6_stand.data.toList.drop 67 = dktX6_stand_3 := dk_seg dksX6_stand_2 22 rfl rfl
theorem dksX6_stand_4 : cX6_stand.data.toList.drop 90 = dktX6_stand_4 := dk_seg dksX6_stand_3 23 rfl rfl
theorem dksX6_stand_5 : cX6_stand.data.toList.drop 114 = dktX6_stand_5 := dk_seg dksX6_stand_4 24 rfl rfl
theorem dksX6_stand_6 : cX6_stand.data.toList.drop 138 = dktX6_stand_6 := dk_seg dksX6_stand_5 24 rfl rfl
theorem dksX6_stand_7 : cX6_stand.data.toList.drop 161 = dktX6_stand_7 := dk_seg dksX6_stand_6 23 rfl rfl
theorem dX6_stand_0 : decode cX6_stand 0 = .ok (.iload_n 1, 1) := dk_27 (dk_at dksX6_stand_0 0 rfl rfl)
theorem dX6_stand_1 : decode cX6_stand 1 = .ok (.i2l, 1) := dk_133 (dk_at dksX6_stand_0 1 rfl rfl)
theorem dX6_stand_2 : decode cX6_stand 2 = .ok (.lconst 1, 1) := dk_10 (dk_at dksX6_stand_0 2 rfl rfl)
theorem dX6_stand_3 : decode cX6_stand 3 = .ok (.ldc2_w 454, 3) := dk_20 1 198 (dk_at dksX6_stand_0 3 rfl rfl)
theorem dX6_stand_6 : decode cX6_stand 6 = .ok (.invokestatic 52, 3) := dk_184 0 52 (dk_at dksX6_stand_0 6 rfl rfl)
theorem dX6_stand_9 : decode cX6_stand 9 = .ok (.ifCond .eq 17, 3) := dk_153 0 17 (dk_at dksX6_stand_0 9 rfl rfl)
theorem dX6_stand_12 : decode cX6_stand 12 = .ok (.iload_n 2, 1) := dk_28 (dk_at dksX6_stand_0 12 rfl rfl)
theorem dX6_stand_13 : decode cX6_stand 13 = .ok (.invokestatic 504, 3) := dk_184 1 248 (dk_at dksX6_stand_0 13 rfl rfl)
theorem dX6_stand_16 : decode cX6_stand 16 = .ok (.ifCond .eq 10, 3) := dk_153 0 10 (dk_at dksX6_stand_0 16 rfl rfl)
theorem dX6_stand_19 : decode cX6_stand 19 = .ok (.iload_n 3, 1) := dk_29 (dk_at dksX6_stand_0 19 rfl rfl)
theorem dX6_stand_20 : decode cX6_stand 20 = .ok (.invokestatic 475, 3) := dk_184 1 219 (dk_at dksX6_stand_0 20 rfl rfl)
theorem dX6_stand_23 : decode cX6_stand 23 = .ok (.ifCond .ne 6, 3) := dk_154 0 6 (dk_at dksX6_stand_1 0 rfl rfl)
theorem dX6_stand_26 : decode cX6_stand 26 = .ok (.bipush (-2), 2) := dk_16 254 (dk_at dksX6_stand_1 3 rfl rfl)
theorem dX6_stand_28 : decode cX6_stand 28 = .ok (.ireturn, 1) := dk_172 (dk_at dksX6_stand_1 5 rfl rfl)
theorem dX6_stand_29 : decode cX6_stand 29 = .ok (.iconst (-1), 1) := dk_2 (dk_at dksX6_stand_1 6 rfl rfl)
theorem dX6_stand_30 : decode cX6_stand 30 = .ok (.istore 4, 2) := dk_54 4 (dk_at dksX6_stand_1 7 rfl rfl)
theorem dX6_stand_32 : decode cX6_stand 32 = .ok (.iconst (-1), 1) := dk_2 (dk_at dksX6_stand_1 9 rfl rfl)
theorem dX6_stand_33 : decode cX6_stand 33 = .ok (.istore 5, 2) := dk_54 5 (dk_at dksX6_stand_1 10 rfl rfl)
theorem dX6_stand_35 : decode cX6_stand 35 = .ok (.iconst 0, 1) := dk_3 (dk_at dksX6_stand_1 12 rfl rfl)
theorem dX6_stand_36 : decode cX6_stand 36 = .ok (.istore 6, 2) := dk_54 6 (dk_at dksX6_stand_1 13 rfl rfl)
theorem dX6_stand_38 : decode cX6_stand 38 = .ok (.iload 6, 2) := dk_21 6 (dk_at dksX6_stand_1 15 rfl rfl)
theorem dX6_stand_40 : decode cX6_stand 40 = .ok (.aload_n 0, 1) := dk_42 (dk_at dksX6_stand_1 17 rfl rfl)
theorem dX6_stand_41 : decode cX6_stand 41 = .ok (.getfield 201, 3) := dk_180 0 201 (dk_at dksX6_stand_1 18 rfl rfl)
theorem dX6_stand_44 : decode cX6_stand 44 = .ok (.aload_n 0, 1) := dk_42 (dk_at dksX6_stand_1 21 rfl rfl)
theorem dX6_stand_45 : decode cX6_stand 45 = .ok (.getfield 204, 3) := dk_180 0 204 (dk_at dksX6_stand_2 0 rfl rfl)
theorem dX6_stand_48 : decode cX6_stand 48 = .ok (.imul, 1) := dk_104 (dk_at dksX6_stand_2 3 rfl rfl)
theorem dX6_stand_49 : decode cX6_stand 49 = .ok (.if_icmp .ge 129, 3) := dk_162 0 129 (dk_at dksX6_stand_2 4 rfl rfl)
theorem dX6_stand_52 : decode cX6_stand 52 = .ok (.aload_n 0, 1) := dk_42 (dk_at dksX6_stand_2 7 rfl rfl)
theorem dX6_stand_53 : decode cX6_stand 53 = .ok (.getfield 269, 3) := dk_180 1 13 (dk_at dksX6_stand_2 8 rfl rfl)
theorem dX6_stand_56 : decode cX6_stand 56 = .ok (.sipush 192, 3) := dk_17 0 192 (dk_at dksX6_stand_2 11 rfl rfl)
theorem dX6_stand_59 : decode cX6_stand 59 = .ok (.iload 6, 2) := dk_21 6 (dk_at dksX6_stand_2 14 rfl rfl)
theorem dX6_stand_61 : decode cX6_stand 61 = .ok (.iadd, 1) := dk_96 (dk_at dksX6_stand_2 16 rfl rfl)
theorem dX6_stand_62 : decode cX6_stand 62 = .ok (.iaload, 1) := dk_46 (dk_at dksX6_stand_2 17 rfl rfl)
theorem dX6_stand_63 : decode cX6_stand 63 = .ok (.iconst 1, 1) := dk_4 (dk_at dksX6_stand_2 18 rfl rfl)
theorem dX6_stand_64 : decode cX6_stand 64 = .ok (.if_icmp .ne 6, 3) := dk_160 0 6 (dk_at dksX6_stand_2 19 rfl rfl)
theorem dX6_stand_67 : decode cX6_stand 67 = .ok (.goto 105, 3) := dk_167 0 105 (dk_at dksX6_stand_3 0 rfl rfl)
theorem dX6_stand_70 : decode cX6_stand 70 = .ok (.iconst 0, 1) := dk_3 (dk_at dksX6_stand_3 3 rfl rfl)
theorem dX6_stand_71 : decode cX6_stand 71 = .ok (.istore 7, 2) := dk_54 7 (dk_at dksX6_stand_3 4 rfl rfl)
theorem dX6_stand_73 : decode cX6_stand 73 = .ok (.iconst 1, 1) := dk_4 (dk_at dksX6_stand_3 6 rfl rfl)
theorem dX6_stand_74 : decode cX6_stand 74 = .ok (.istore 8, 2) := dk_54 8 (dk_at dksX6_stand_3 7 rfl rfl)
theorem dX6_stand_76 : decode cX6_stand 76 = .ok (.iload 8, 2) := dk_21 8 (dk_at dksX6_stand_3 9 rfl rfl)
theorem dX6_stand_78 : decode cX6_stand 78 = .ok (.iload_n 2, 1) := dk_28 (dk_at dksX6_stand_3 11 rfl rfl)
theorem dX6_stand_79 : decode cX6_stand 79 = .ok (.if_icmp .gt 75, 3) := dk_163 0 75 (dk_at dksX6_stand_3 12 rfl rfl)
theorem dX6_stand_82 : decode cX6_stand 82 = .ok (.aload_n 0, 1) := dk_42 (dk_at dksX6_stand_3 15 rfl rfl)
theorem dX6_stand_83 : decode cX6_stand 83 = .ok (.iconst (-1), 1) := dk_2 (dk_at dksX6_stand_3 16 rfl rfl)
theorem dX6_stand_84 : decode cX6_stand 84 = .ok (.iload 8, 2) := dk_21 8 (dk_at dksX6_stand_3 17 rfl rfl)
theorem dX6_stand_86 : decode cX6_stand 86 = .ok (.invokevirtual 478, 3) := dk_182 1 222 (dk_at dksX6_stand_3 19 rfl rfl)
theorem dX6_stand_89 : decode cX6_stand 89 = .ok (.aload_n 0, 1) := dk_42 (dk_at dksX6_stand_3 22 rfl rfl)
theorem dX6_stand_90 : decode cX6_stand 90 = .ok (.getfield 272, 3) := dk_180 1 16 (dk_at dksX6_stand_4 0 rfl rfl)
theorem dX6_stand_93 : decode cX6_stand 93 = .ok (.iconst 0, 1) := dk_3 (dk_at dksX6_stand_4 3 rfl rfl)
theorem dX6_stand_94 : decode cX6_stand 94 = .ok (.iload 6, 2) := dk_21 6 (dk_at dksX6_stand_4 4 rfl rfl)
theorem dX6_stand_96 : decode cX6_stand 96 = .ok (.iadd, 1) := dk_96 (dk_at dksX6_stand_4 6 rfl rfl)
theorem dX6_stand_97 : decode cX6_stand 97 = .ok (.dup2, 1) := dk_92 (dk_at dksX6_stand_4 7 rfl rfl)
theorem dX6_stand_98 : decode cX6_stand 98 = .ok (.iaload, 1) := dk_46 (dk_at dksX6_stand_4 8 rfl rfl)
theorem dX6_stand_99 : decode cX6_stand 99 = .ok (.iload_n 1, 1) := dk_27 (dk_at dksX6_stand_4 9 rfl rfl)
theorem dX6_stand_100 : decode cX6_stand 100 = .ok (.iadd, 1) := dk_96 (dk_at dksX6_stand_4 10 rfl rfl)
theorem dX6_stand_101 : decode cX6_stand 101 = .ok (.iastore, 1) := dk_79 (dk_at dksX6_stand_4 11 rfl rfl)
theorem dX6_stand_102 : decode cX6_stand 102 = .ok (.aload_n 0, 1) := dk_42 (dk_at dksX6_stand_4 12 rfl rfl)
theorem dX6_stand_103 : decode cX6_stand 103 = .ok (.getfield 272, 3) := dk_180 1 16 (dk_at dksX6_stand_4 13 rfl rfl)
theorem dX6_stand_106 : decode cX6_stand 106 = .ok (.iload 6, 2) := dk_21 6 (dk_at dksX6_stand_4 16 rfl rfl)
theorem dX6_stand_108 : decode cX6_stand 108 = .ok (.invokestatic 314, 3) := dk_184 1 58 (dk_at dksX6_stand_4 18 rfl rfl)
theorem dX6_stand_111 : decode cX6_stand 111 = .ok (.iconst 0, 1) := dk_3 (dk_at dksX6_stand_4 21 rfl rfl)
theorem dX6_stand_112 : decode cX6_stand 112 = .ok (.istore 9, 2) := dk_54 9 (dk_at dksX6_stand_4 22 rfl rfl)
theorem dX6_stand_114 : decode cX6_stand 114 = .ok (.iload 9, 2) := dk_21 9 (dk_at dksX6_stand_5 0 rfl rfl)
theorem dX6_stand_116 : decode cX6_stand 116 = .ok (.iload_n 3, 1) := dk_29 (dk_at dksX6_stand_5 2 rfl rfl)
theorem dX6_stand_117 : decode cX6_stand 117 = .ok (.if_icmp .ge 17, 3) := dk_162 0 17 (dk_at dksX6_stand_5 3 rfl rfl)
theorem dX6_stand_120 : decode cX6_stand 120 = .ok (.aload_n 0, 1) := dk_42 (dk_at dksX6_stand_5 6 rfl rfl)
theorem dX6_stand_121 : decode cX6_stand 121 = .ok (.aload_n 0, 1) := dk_42 (dk_at dksX6_stand_5 7 rfl rfl)
theorem dX6_stand_122 : decode cX6_stand 122 = .ok (.getfield 272, 3) := dk_180 1 16 (dk_at dksX6_stand_5 8 rfl rfl)
theorem dX6_stand_125 : decode cX6_stand 125 = .ok (.invokevirtual 422, 3) := dk_182 1 166 (dk_at dksX6_stand_5 11 rfl rfl)
theorem dX6_stand_128 : decode cX6_stand 128 = .ok (.iinc 9 1, 3) := dk_132 9 1 (dk_at dksX6_stand_5 14 rfl rfl)
theorem dX6_stand_131 : decode cX6_stand 131 = .ok (.goto (-17), 3) := dk_167 255 239 (dk_at dksX6_stand_5 17 rfl rfl)
theorem dX6_stand_134 : decode cX6_stand 134 = .ok (.iload 7, 2) := dk_21 7 (dk_at dksX6_stand_5 20 rfl rfl)
theorem dX6_stand_136 : decode cX6_stand 136 = .ok (.aload_n 0, 1) := dk_42 (dk_at dksX6_stand_5 22 rfl rfl)
theorem dX6_stand_137 : decode cX6_stand 137 = .ok (.aload_n 0, 1) := dk_42 (dk_at dksX6_stand_5 23 rfl rfl)
theorem dX6_stand_138 : decode cX6_stand 138 = .ok (.getfield 311, 3) := dk_180 1 55 (dk_at dksX6_stand_6 0 rfl rfl)
theorem dX6_stand_141 : decode cX6_stand 141 = .ok (.iload_n 3, 1) := dk_29 (dk_at dksX6_stand_6 3 rfl rfl)
theorem dX6_stand_142 : decode cX6_stand 142 = .ok (.invokevirtual 482, 3) := dk_182 1 226 (dk_at dksX6_stand_6 4 rfl rfl)
theorem dX6_stand_145 : decode cX6_stand 145 = .ok (.iadd, 1) := dk_96 (dk_at dksX6_stand_6 7 rfl rfl)
theorem dX6_stand_146 : decode cX6_stand 146 = .ok (.istore 7, 2) := dk_54 7 (dk_at dksX6_stand_6 8 rfl rfl)
theorem dX6_stand_148 : decode cX6_stand 148 = .ok (.iinc 8 1, 3) := dk_132 8 1 (dk_at dksX6_stand_6 10 rfl rfl)
theorem dX6_stand_151 : decode cX6_stand 151 = .ok (.goto (-75), 3) := dk_167 255 181 (dk_at dksX6_stand_6 13 rfl rfl)
theorem dX6_stand_154 : decode cX6_stand 154 = .ok (.iload 7, 2) := dk_21 7 (dk_at dksX6_stand_6 16 rfl rfl)
theorem dX6_stand_156 : decode cX6_stand 156 = .ok (.iload 5, 2) := dk_21 5 (dk_at dksX6_stand_6 18 rfl rfl)
theorem dX6_stand_158 : decode cX6_stand 158 = .ok (.if_icmp .gt 6, 3) := dk_163 0 6 (dk_at dksX6_stand_6 20 rfl rfl)
theorem dX6_stand_161 : decode cX6_stand 161 = .ok (.goto 11, 3) := dk_167 0 11 (dk_at dksX6_stand_7 0 rfl rfl)
theorem dX6_stand_164 : decode cX6_stand 164 = .ok (.iload 7, 2) := dk_21 7 (dk_at dksX6_stand_7 3 rfl rfl)
theorem dX6_stand_166 : decode cX6_stand 166 = .ok (.istore 5, 2) := dk_54 5 (dk_at dksX6_stand_7 5 rfl rfl)
theorem dX6_stand_168 : decode cX6_stand 168 = .ok (.iload 6, 2) := dk_21 6 (dk_at dksX6_stand_7 7 rfl rfl)
theorem dX6_stand_170 : decode cX6_stand 170 = .ok (.istore 4, 2) := dk_54 4 (dk_at dksX6_stand_7 9 rfl rfl)
theorem dX6_stand_172 : decode cX6_stand 172 = .ok (.iinc 6 1, 3) := dk_132 6 1 (dk_at dksX6_stand_7 11 rfl rfl)
theorem dX6_stand_175 : decode cX6_stand 175 = .ok (.goto (-137), 3) := dk_167 255 119 (dk_at dksX6_stand_7 14 rfl rfl)
theorem dX6_stand_178 : decode cX6_stand 178 = .ok (.iload 4, 2) := dk_21 4 (dk_at dksX6_stand_7 17 rfl rfl)
theorem dX6_stand_180 : decode cX6_stand 180 = .ok (.ireturn, 1) := dk_172 (dk_at dksX6_stand_7 19 rfl rfl)
abbrev cX6_areSeeds : ByteArray := prog_16_method_95_code
def yX6_areSeeds : MethodName := ⟨RX6, "areSeeds", "(I)Z"⟩
def dkwX6_areSeeds_0 : List UInt8 := [26, 133, 10, 20, 1, 246, 184, 0, 52, 172]
abbrev dktX6_areSeeds_0 : List UInt8 := dkwX6_areSeeds_0 ++ []
theorem dksX6_areSeeds_0 : cX6_areSeeds.data.toList.drop 0 = dktX6_areSeeds_0 := by decide +kernel
theorem dX6_areSeeds_0 : decode cX6_areSeeds 0 = .ok (.iload_n 0, 1) := dk_26 (dk_at dksX6_areSeeds_0 0 rfl rfl)
theorem dX6_areSeeds_1 : decode cX6_areSeeds 1 = .ok (.i2l, 1) := dk_133 (dk_at dksX6_areSeeds_0 1 rfl rfl)
theorem dX6_areSeeds_2 : decode cX6_areSeeds 2 = .ok (.lconst 1, 1) := dk_10 (dk_at dksX6_areSeeds_0 2 rfl rfl)
theorem dX6_areSeeds_3 : decode cX6_areSeeds 3 = .ok (.ldc2_w 502, 3) := dk_20 1 246 (dk_at dksX6_areSeeds_0 3 rfl rfl)
theorem dX6_areSeeds_6 : decode cX6_areSeeds 6 = .ok (.invokestatic 52, 3) := dk_184 0 52 (dk_at dksX6_areSeeds_0 6 rfl rfl)
theorem dX6_areSeeds_9 : decode cX6_areSeeds 9 = .ok (.ireturn, 1) := dk_172 (dk_at dksX6_areSeeds_0 9 rfl rfl)
abbrev cX6_outlasts : ByteArray := prog_16_method_98_code
def yX6_outlasts : MethodName := ⟨RX6, "outlasts", "(IIIIZ)I"⟩
def dkwX6_outlasts_5 : List UInt8 := [153, 0, 7, 29, 167, 0, 5, 21, 6, 21, 6, 29, 184, 1, 251, 108, 172]
abbrev dktX6_outlasts_5 : List UInt8 := dkwX6_outlasts_5 ++ []
def dkwX6_outlasts_4 : List UInt8 := [21, 4, 182, 1, 226, 164, 0, 7, 4, 167, 0, 4, 3, 96, 54, 6, 132, 7, 1, 167, 255, 189, 21, 5]
abbrev dktX6_outlasts_4 : List UInt8 := dkwX6_outlasts_4 ++ dktX6_outlasts_5
def dkwX6_outlasts_3 : List UInt8 := [42, 180, 1, 16, 182, 1, 166, 132, 8, 1, 167, 255, 238, 21, 6, 42, 27, 21, 4, 182, 1, 226, 42, 28]
abbrev dktX6_outlasts_3 : List UInt8 := dkwX6_outlasts_3 ++ dktX6_outlasts_4
def dkwX6_outlasts_2 : List UInt8 := [21, 7, 29, 163, 0, 67, 42, 2, 21, 7, 182, 1, 222, 3, 54, 8, 21, 8, 21, 4, 162, 0, 17, 42]
abbrev dktX6_outlasts_2 : List UInt8 := dkwX6_outlasts_2 ++ dktX6_outlasts_3
def dkwX6_outlasts_1 : List UInt8 := [184, 1, 248, 153, 0, 11, 21, 4, 184, 1, 219, 154, 0, 6, 16, 254, 172, 3, 54, 6, 4, 54, 7]
abbrev dktX6_outlasts_1 : List UInt8 := dkwX6_outlasts_1 ++ dktX6_outlasts_2
def dkwX6_outlasts_0 : List UInt8 := [42, 27, 182, 1, 171, 153, 0, 31, 42, 28, 182, 1, 171, 153, 0, 23, 27, 28, 159, 0, 18, 29]
abbrev dktX6_outlasts_0 : List UInt8 := dkwX6_outlasts_0 ++ dktX6_outlasts_1
theorem dksX6_outlasts_0 : cX6_outlasts.data.toList.drop 0 = dktX6_outlasts_0 := by decide +kernel
theorem dksX6_outlasts_1 : cX6_outlasts.data.toList.drop 22 = dktX6_outlasts_1 := dk_seg dksX6_outlasts_0 22 rfl rfl
theorem dksX6_outlasts_2 : cX6_outlasts.data.toList.drop 45 = dktX6_outlasts_2 := dk_seg dksX6_outlasts_1 23 rfl rfl
theorem dksX6_outlasts_3 : cX6_outlasts.data.toList.drop 69 = dktX6_outlasts_3 := dk_seg dksX6_outlasts_2 24 rfl rfl
theorem dksX6_outlasts_4 : cX6_outlasts.data.toList.drop 93 = dktX6_outlasts_4 := dk_seg dksX6_outlasts_3 24 rfl rfl
theorem dksX6_outlasts_5 : cX6_outlasts.data.toList.drop 117 = dktX6_outlasts_5 := dk_seg dksX6_outlasts_4 24 rfl rfl
theorem dX6_outlasts_0 : decode cX6_outlasts 0 = .ok (.aload_n 0, 1) := dk_42 (dk_at dksX6_outlasts_0 0 rfl rfl)
theorem dX6_outlasts_1 : decode cX6_outlasts 1 = .ok (.iload_n 1, 1) := dk_27 (dk_at dksX6_outlasts_0 1 rfl rfl)
theorem dX6_outlasts_2 : decode cX6_outlasts 2 = .ok (.invokevirtual 427, 3) := dk_182 1 171 (dk_at dksX6_outlasts_0 2 rfl rfl)
theorem dX6_outlasts_5 : decode cX6_outlasts 5 = .ok (.ifCond .eq 31, 3) := dk_153 0 31 (dk_at dksX6_outlasts_0 5 rfl rfl)
theorem dX6_outlasts_8 : decode cX6_outlasts 8 = .ok (.aload_n 0, 1) := dk_42 (dk_at dksX6_outlasts_0 8 rfl rfl)
theorem dX6_outlasts_9 : decode cX6_outlasts 9 = .ok (.iload_n 2, 1) := dk_28 (dk_at dksX6_outlasts_0 9 rfl rfl)
theorem dX6_outlasts_10 : decode cX6_outlasts 10 = .ok (.invokevirtual 427, 3) := dk_182 1 171 (dk_at dksX6_outlasts_0 10 rfl rfl)
theorem dX6_outlasts_13 : decode cX6_outlasts 13 = .ok (.ifCond .eq 23, 3) := dk_153 0 23 (dk_at dksX6_outlasts_0 13 rfl rfl)
theorem dX6_outlasts_16 : decode cX6_outlasts 16 = .ok (.iload_n 1, 1) := dk_27 (dk_at dksX6_outlasts_0 16 rfl rfl)
theorem dX6_outlasts_17 : decode cX6_outlasts 17 = .ok (.iload_n 2, 1) := dk_28 (dk_at dksX6_outlasts_0 17 rfl rfl)
theorem dX6_outlasts_18 : decode cX6_outlasts 18 = .ok (.if_icmp .eq 18, 3) := dk_159 0 18 (dk_at dksX6_outlasts_0 18 rfl rfl)
theorem dX6_outlasts_21 : decode cX6_outlasts 21 = .ok (.iload_n 3, 1) := dk_29 (dk_at dksX6_outlasts_0 21 rfl rfl)
theorem dX6_outlasts_22 : decode cX6_outlasts 22 = .ok (.invokestatic 504, 3) := dk_184 1 248 (dk_at dksX6_outlasts_1 0 rfl rfl)
theorem dX6_outlasts_25 : decode cX6_outlasts 25 = .ok (.ifCond .eq 11, 3) := dk_153 0 11 (dk_at dksX6_outlasts_1 3 rfl rfl)
theorem dX6_outlasts_28 : decode cX6_outlasts 28 = .ok (.iload 4, 2) := dk_21 4 (dk_at dksX6_outlasts_1 6 rfl rfl)
theorem dX6_outlasts_30 : decode cX6_outlasts 30 = .ok (.invokestatic 475, 3) := dk_184 1 219 (dk_at dksX6_outlasts_1 8 rfl rfl)
theorem dX6_outlasts_33 : decode cX6_outlasts 33 = .ok (.ifCond .ne 6, 3) := dk_154 0 6 (dk_at dksX6_outlasts_1 11 rfl rfl)
theorem dX6_outlasts_36 : decode cX6_outlasts 36 = .ok (.bipush (-2), 2) := dk_16 254 (dk_at dksX6_outlasts_1 14 rfl rfl)
theorem dX6_outlasts_38 : decode cX6_outlasts 38 = .ok (.ireturn, 1) := dk_172 (dk_at dksX6_outlasts_1 16 rfl rfl)
theorem dX6_outlasts_39 : decode cX6_outlasts 39 = .ok (.iconst 0, 1) := dk_3 (dk_at dksX6_outlasts_1 17 rfl rfl)
theorem dX6_outlasts_40 : decode cX6_outlasts 40 = .ok (.istore 6, 2) := dk_54 6 (dk_at dksX6_outlasts_1 18 rfl rfl)
theorem dX6_outlasts_42 : decode cX6_outlasts 42 = .ok (.iconst 1, 1) := dk_4 (dk_at dksX6_outlasts_1 20 rfl rfl)
theorem dX6_outlasts_43 : decode cX6_outlasts 43 = .ok (.istore 7, 2) := dk_54 7 (dk_at dksX6_outlasts_1 21 rfl rfl)
theorem dX6_outlasts_45 : decode cX6_outlasts 45 = .ok (.iload 7, 2) := dk_21 7 (dk_at dksX6_outlasts_2 0 rfl rfl)
theorem dX6_outlasts_47 : decode cX6_outlasts 47 = .ok (.iload_n 3, 1) := dk_29 (dk_at dksX6_outlasts_2 2 rfl rfl)
theorem dX6_outlasts_48 : decode cX6_outlasts 48 = .ok (.if_icmp .gt 67, 3) := dk_163 0 67 (dk_at dksX6_outlasts_2 3 rfl rfl)
theorem dX6_outlasts_51 : decode cX6_outlasts 51 = .ok (.aload_n 0, 1) := dk_42 (dk_at dksX6_outlasts_2 6 rfl rfl)
theorem dX6_outlasts_52 : decode cX6_outlasts 52 = .ok (.iconst (-1), 1) := dk_2 (dk_at dksX6_outlasts_2 7 rfl rfl)
theorem dX6_outlasts_53 : decode cX6_outlasts 53 = .ok (.iload 7, 2) := dk_21 7 (dk_at dksX6_outlasts_2 8 rfl rfl)
theorem dX6_outlasts_55 : decode cX6_outlasts 55 = .ok (.invokevirtual 478, 3) := dk_182 1 222 (dk_at dksX6_outlasts_2 10 rfl rfl)
theorem dX6_outlasts_58 : decode cX6_outlasts 58 = .ok (.iconst 0, 1) := dk_3 (dk_at dksX6_outlasts_2 13 rfl rfl)
theorem dX6_outlasts_59 : decode cX6_outlasts 59 = .ok (.istore 8, 2) := dk_54 8 (dk_at dksX6_outlasts_2 14 rfl rfl)
theorem dX6_outlasts_61 : decode cX6_outlasts 61 = .ok (.iload 8, 2) := dk_21 8 (dk_at dksX6_outlasts_2 16 rfl rfl)
theorem dX6_outlasts_63 : decode cX6_outlasts 63 = .ok (.iload 4, 2) := dk_21 4 (dk_at dksX6_outlasts_2 18 rfl rfl)
theorem dX6_outlasts_65 : decode cX6_outlasts 65 = .ok (.if_icmp .ge 17, 3) := dk_162 0 17 (dk_at dksX6_outlasts_2 20 rfl rfl)
theorem dX6_outlasts_68 : decode cX6_outlasts 68 = .ok (.aload_n 0, 1) := dk_42 (dk_at dksX6_outlasts_2 23 rfl rfl)
theorem dX6_outlasts_69 : decode cX6_outlasts 69 = .ok (.aload_n 0, 1) := dk_42 (dk_at dksX6_outlasts_3 0 rfl rfl)
theorem dX6_outlasts_70 : decode cX6_outlasts 70 = .ok (.getfield 272, 3) := dk_180 1 16 (dk_at dksX6_outlasts_3 1 rfl rfl)
theorem dX6_outlasts_73 : decode cX6_outlasts 73 = .ok (.invokevirtual 422, 3) := dk_182 1 166 (dk_at dksX6_outlasts_3 4 rfl rfl)
theorem dX6_outlasts_76 : decode cX6_outlasts 76 = .ok (.iinc 8 1, 3) := dk_132 8 1 (dk_at dksX6_outlasts_3 7 rfl rfl)
theorem dX6_outlasts_79 : decode cX6_outlasts 79 = .ok (.goto (-18), 3) := dk_167 255 238 (dk_at dksX6_outlasts_3 10 rfl rfl)
theorem dX6_outlasts_82 : decode cX6_outlasts 82 = .ok (.iload 6, 2) := dk_21 6 (dk_at dksX6_outlasts_3 13 rfl rfl)
theorem dX6_outlasts_84 : decode cX6_outlasts 84 = .ok (.aload_n 0, 1) := dk_42 (dk_at dksX6_outlasts_3 15 rfl rfl)
theorem dX6_outlasts_85 : decode cX6_outlasts 85 = .ok (.iload_n 1, 1) := dk_27 (dk_at dksX6_outlasts_3 16 rfl rfl)
theorem dX6_outlasts_86 : decode cX6_outlasts 86 = .ok (.iload 4, 2) := dk_21 4 (dk_at dksX6_outlasts_3 17 rfl rfl)
theorem dX6_outlasts_88 : decode cX6_outlasts 88 = .ok (.invokevirtual 482, 3) := dk_182 1 226 (dk_at dksX6_outlasts_3 19 rfl rfl)
theorem dX6_outlasts_91 : decode cX6_outlasts 91 = .ok (.aload_n 0, 1) := dk_42 (dk_at dksX6_outlasts_3 22 rfl rfl)
theorem dX6_outlasts_92 : decode cX6_outlasts 92 = .ok (.iload_n 2, 1) := dk_28 (dk_at dksX6_outlasts_3 23 rfl rfl)
theorem dX6_outlasts_93 : decode cX6_outlasts 93 = .ok (.iload 4, 2) := dk_21 4 (dk_at dksX6_outlasts_4 0 rfl rfl)
theorem dX6_outlasts_95 : decode cX6_outlasts 95 = .ok (.invokevirtual 482, 3) := dk_182 1 226 (dk_at dksX6_outlasts_4 2 rfl rfl)
theorem dX6_outlasts_98 : decode cX6_outlasts 98 = .ok (.if_icmp .le 7, 3) := dk_164 0 7 (dk_at dksX6_outlasts_4 5 rfl rfl)
theorem dX6_outlasts_101 : decode cX6_outlasts 101 = .ok (.iconst 1, 1) := dk_4 (dk_at dksX6_outlasts_4 8 rfl rfl)
theorem dX6_outlasts_102 : decode cX6_outlasts 102 = .ok (.goto 4, 3) := dk_167 0 4 (dk_at dksX6_outlasts_4 9 rfl rfl)
theorem dX6_outlasts_105 : decode cX6_outlasts 105 = .ok (.iconst 0, 1) := dk_3 (dk_at dksX6_outlasts_4 12 rfl rfl)
theorem dX6_outlasts_106 : decode cX6_outlasts 106 = .ok (.iadd, 1) := dk_96 (dk_at dksX6_outlasts_4 13 rfl rfl)
theorem dX6_outlasts_107 : decode cX6_outlasts 107 = .ok (.istore 6, 2) := dk_54 6 (dk_at dksX6_outlasts_4 14 rfl rfl)
theorem dX6_outlasts_109 : decode cX6_outlasts 109 = .ok (.iinc 7 1, 3) := dk_132 7 1 (dk_at dksX6_outlasts_4 16 rfl rfl)
theorem dX6_outlasts_112 : decode cX6_outlasts 112 = .ok (.goto (-67), 3) := dk_167 255 189 (dk_at dksX6_outlasts_4 19 rfl rfl)
theorem dX6_outlasts_115 : decode cX6_outlasts 115 = .ok (.iload 5, 2) := dk_21 5 (dk_at dksX6_outlasts_4 22 rfl rfl)
theorem dX6_outlasts_117 : decode cX6_outlasts 117 = .ok (.ifCond .eq 7, 3) := dk_153 0 7 (dk_at dksX6_outlasts_5 0 rfl rfl)
theorem dX6_outlasts_120 : decode cX6_outlasts 120 = .ok (.iload_n 3, 1) := dk_29 (dk_at dksX6_outlasts_5 3 rfl rfl)
theorem dX6_outlasts_121 : decode cX6_outlasts 121 = .ok (.goto 5, 3) := dk_167 0 5 (dk_at dksX6_outlasts_5 4 rfl rfl)
theorem dX6_outlasts_124 : decode cX6_outlasts 124 = .ok (.iload 6, 2) := dk_21 6 (dk_at dksX6_outlasts_5 7 rfl rfl)
theorem dX6_outlasts_126 : decode cX6_outlasts 126 = .ok (.iload 6, 2) := dk_21 6 (dk_at dksX6_outlasts_5 9 rfl rfl)
theorem dX6_outlasts_128 : decode cX6_outlasts 128 = .ok (.iload_n 3, 1) := dk_29 (dk_at dksX6_outlasts_5 11 rfl rfl)
theorem dX6_outlasts_129 : decode cX6_outlasts 129 = .ok (.invokestatic 507, 3) := dk_184 1 251 (dk_at dksX6_outlasts_5 12 rfl rfl)
theorem dX6_outlasts_132 : decode cX6_outlasts 132 = .ok (.idiv, 1) := dk_108 (dk_at dksX6_outlasts_5 15 rfl rfl)
theorem dX6_outlasts_133 : decode cX6_outlasts 133 = .ok (.ireturn, 1) := dk_172 (dk_at dksX6_outlasts_5 16 rfl rfl)
abbrev cX6_common : ByteArray := prog_16_method_97_code
def yX6_common : MethodName := ⟨RX6, "common", "(II)I"⟩
def dkwX6_common_0 : List UInt8 := [26, 61, 27, 62, 29, 153, 0, 16, 28, 29, 112, 54, 4, 29, 61, 21, 4, 62, 167, 255, 242, 28, 172]
abbrev dktX6_common_0 : List UInt8 := dkwX6_common_0 ++ []
theorem dksX6_common_0 : cX6_common.data.toList.drop 0 = dktX6_common_0 := by decide +kernel
theorem dX6_common_0 : decode cX6_common 0 = .ok (.iload_n 0, 1) := dk_26 (dk_at dksX6_common_0 0 rfl rfl)
theorem dX6_common_1 : decode cX6_common 1 = .ok (.istore_n 2, 1) := dk_61 (dk_at dksX6_common_0 1 rfl rfl)
theorem dX6_common_2 : decode cX6_common 2 = .ok (.iload_n 1, 1) := dk_27 (dk_at dksX6_common_0 2 rfl rfl)
theorem dX6_common_3 : decode cX6_common 3 = .ok (.istore_n 3, 1) := dk_62 (dk_at dksX6_common_0 3 rfl rfl)
theorem dX6_common_4 : decode cX6_common 4 = .ok (.iload_n 3, 1) := dk_29 (dk_at dksX6_common_0 4 rfl rfl)
theorem dX6_common_5 : decode cX6_common 5 = .ok (.ifCond .eq 16, 3) := dk_153 0 16 (dk_at dksX6_common_0 5 rfl rfl)
theorem dX6_common_8 : decode cX6_common 8 = .ok (.iload_n 2, 1) := dk_28 (dk_at dksX6_common_0 8 rfl rfl)
theorem dX6_common_9 : decode cX6_common 9 = .ok (.iload_n 3, 1) := dk_29 (dk_at dksX6_common_0 9 rfl rfl)
theorem dX6_common_10 : decode cX6_common 10 = .ok (.irem, 1) := dk_112 (dk_at dksX6_common_0 10 rfl rfl)
theorem dX6_common_11 : decode cX6_common 11 = .ok (.istore 4, 2) := dk_54 4 (dk_at dksX6_common_0 11 rfl rfl)
theorem dX6_common_13 : decode cX6_common 13 = .ok (.iload_n 3, 1) := dk_29 (dk_at dksX6_common_0 13 rfl rfl)
theorem dX6_common_14 : decode cX6_common 14 = .ok (.istore_n 2, 1) := dk_61 (dk_at dksX6_common_0 14 rfl rfl)
theorem dX6_common_15 : decode cX6_common 15 = .ok (.iload 4, 2) := dk_21 4 (dk_at dksX6_common_0 15 rfl rfl)
theorem dX6_common_17 : decode cX6_common 17 = .ok (.istore_n 3, 1) := dk_62 (dk_at dksX6_common_0 17 rfl rfl)
theorem dX6_common_18 : decode cX6_common 18 = .ok (.goto (-14), 3) := dk_167 255 242 (dk_at dksX6_common_0 18 rfl rfl)
theorem dX6_common_21 : decode cX6_common 21 = .ok (.iload_n 2, 1) := dk_28 (dk_at dksX6_common_0 21 rfl rfl)
theorem dX6_common_22 : decode cX6_common 22 = .ok (.ireturn, 1) := dk_172 (dk_at dksX6_common_0 22 rfl rfl)
abbrev cX6_contest : ByteArray := prog_16_method_99_code
def yX6_contest : MethodName := ⟨RX6, "contest", "(III)I"⟩
def dkwX6_contest_6 : List UInt8 := [163, 0, 6, 167, 0, 11, 21, 7, 54, 5, 21, 6, 54, 4, 132, 6, 1, 167, 255, 144, 21, 4, 172]
abbrev dktX6_contest_6 : List UInt8 := dkwX6_contest_6 ++ []
def dkwX6_contest_5 : List UInt8 := [180, 1, 16, 17, 1, 0, 46, 96, 46, 96, 54, 7, 132, 8, 1, 167, 255, 183, 21, 7, 21, 5]
abbrev dktX6_contest_5 : List UInt8 := dkwX6_contest_5 ++ dktX6_contest_6
def dkwX6_contest_4 : List UInt8 := [167, 255, 239, 21, 7, 27, 154, 0, 12, 42, 3, 29, 182, 1, 226, 167, 0, 18, 42, 180, 1, 16, 3, 42]
abbrev dktX6_contest_4 : List UInt8 := dkwX6_contest_4 ++ dktX6_contest_5
def dkwX6_contest_3 : List UInt8 := [182, 1, 222, 3, 54, 9, 21, 9, 29, 162, 0, 17, 42, 42, 180, 1, 16, 182, 1, 166, 132, 9, 1]
abbrev dktX6_contest_3 : List UInt8 := dkwX6_contest_3 ++ dktX6_contest_4
def dkwX6_contest_2 : List UInt8 := [42, 180, 0, 225, 162, 0, 109, 3, 54, 7, 4, 54, 8, 21, 8, 28, 163, 0, 73, 42, 21, 6, 21, 8]
abbrev dktX6_contest_2 : List UInt8 := dkwX6_contest_2 ++ dktX6_contest_3
def dkwX6_contest_1 : List UInt8 := [16, 254, 172, 42, 180, 1, 55, 154, 0, 6, 16, 252, 172, 2, 54, 4, 2, 54, 5, 3, 54, 6, 21, 6]
abbrev dktX6_contest_1 : List UInt8 := dkwX6_contest_1 ++ dktX6_contest_2
def dkwX6_contest_0 : List UInt8 := [27, 133, 9, 10, 184, 0, 52, 153, 0, 17, 28, 184, 1, 248, 153, 0, 10, 29, 184, 1, 219, 154, 0, 6]
abbrev dktX6_contest_0 : List UInt8 := dkwX6_contest_0 ++ dktX6_contest_1
theorem dksX6_contest_0 : cX6_contest.data.toList.drop 0 = dktX6_contest_0 := by decide +kernel
theorem dksX6_contest_1 : cX6_contest.data.toList.drop 24 = dktX6_contest_1 := dk_seg dksX6_contest_0 24 rfl rfl
theorem dksX6_contest_2 : cX6_contest.data.toList.drop 48 = dktX6_contest_2 := dk_seg dksX6_contest_1 24 rfl rfl
theorem dksX6_contest_3 : cX6_contest.data.toList.drop 72 = dktX6_contest_3 := dk_seg dksX6_contest_2 24 rfl rfl
theorem dksX6_contest_4 : cX6_contest.data.toList.drop 95 = dktX6_contest_4 := dk_seg dksX6_contest_3 23 rfl rfl
theorem dksX6_contest_5 : cX6_contest.data.toList.drop 119 = dktX6_contest_5 := dk_seg dksX6_contest_4 24 rfl rfl
theorem dksX6_contest_6 : cX6_contest.data.toList.drop 141 = dktX6_contest_6 := dk_seg dksX6_contest_5 22 rfl rfl
theorem dX6_contest_0 : decode cX6_contest 0 = .ok (.iload_n 1, 1) := dk_27 (dk_at dksX6_contest_0 0 rfl rfl)
theorem dX6_contest_1 : decode cX6_contest 1 = .ok (.i2l, 1) := dk_133 (dk_at dksX6_contest_0 1 rfl rfl)
theorem dX6_contest_2 : decode cX6_contest 2 = .ok (.lconst 0, 1) := dk_9 (dk_at dksX6_contest_0 2 rfl rfl)
theorem dX6_contest_3 : decode cX6_contest 3 = .ok (.lconst 1, 1) := dk_10 (dk_at dksX6_contest_0 3 rfl rfl)
theorem dX6_contest_4 : decode cX6_contest 4 = .ok (.invokestatic 52, 3) := dk_184 0 52 (dk_at dksX6_contest_0 4 rfl rfl)
theorem dX6_contest_7 : decode cX6_contest 7 = .ok (.ifCond .eq 17, 3) := dk_153 0 17 (dk_at dksX6_contest_0 7 rfl rfl)
theorem dX6_contest_10 : decode cX6_contest 10 = .ok (.iload_n 2, 1) := dk_28 (dk_at dksX6_contest_0 10 rfl rfl)
theorem dX6_contest_11 : decode cX6_contest 11 = .ok (.invokestatic 504, 3) := dk_184 1 248 (dk_at dksX6_contest_0 11 rfl rfl)
theorem dX6_contest_14 : decode cX6_contest 14 = .ok (.ifCond .eq 10, 3) := dk_153 0 10 (dk_at dksX6_contest_0 14 rfl rfl)
theorem dX6_contest_17 : decode cX6_contest 17 = .ok (.iload_n 3, 1) := dk_29 (dk_at dksX6_contest_0 17 rfl rfl)
theorem dX6_contest_18 : decode cX6_contest 18 = .ok (.invokestatic 475, 3) := dk_184 1 219 (dk_at dksX6_contest_0 18 rfl rfl)
theorem dX6_contest_21 : decode cX6_contest 21 = .ok (.ifCond .ne 6, 3) := dk_154 0 6 (dk_at dksX6_contest_0 21 rfl rfl)
theorem dX6_contest_24 : decode cX6_contest 24 = .ok (.bipush (-2), 2) := dk_16 254 (dk_at dksX6_contest_1 0 rfl rfl)
theorem dX6_contest_26 : decode cX6_contest 26 = .ok (.ireturn, 1) := dk_172 (dk_at dksX6_contest_1 2 rfl rfl)
theorem dX6_contest_27 : decode cX6_contest 27 = .ok (.aload_n 0, 1) := dk_42 (dk_at dksX6_contest_1 3 rfl rfl)
theorem dX6_contest_28 : decode cX6_contest 28 = .ok (.getfield 311, 3) := dk_180 1 55 (dk_at dksX6_contest_1 4 rfl rfl)
theorem dX6_contest_31 : decode cX6_contest 31 = .ok (.ifCond .ne 6, 3) := dk_154 0 6 (dk_at dksX6_contest_1 7 rfl rfl)
theorem dX6_contest_34 : decode cX6_contest 34 = .ok (.bipush (-4), 2) := dk_16 252 (dk_at dksX6_contest_1 10 rfl rfl)
theorem dX6_contest_36 : decode cX6_contest 36 = .ok (.ireturn, 1) := dk_172 (dk_at dksX6_contest_1 12 rfl rfl)
theorem dX6_contest_37 : decode cX6_contest 37 = .ok (.iconst (-1), 1) := dk_2 (dk_at dksX6_contest_1 13 rfl rfl)
theorem dX6_contest_38 : decode cX6_contest 38 = .ok (.istore 4, 2) := dk_54 4 (dk_at dksX6_contest_1 14 rfl rfl)
theorem dX6_contest_40 : decode cX6_contest 40 = .ok (.iconst (-1), 1) := dk_2 (dk_at dksX6_contest_1 16 rfl rfl)
theorem dX6_contest_41 : decode cX6_contest 41 = .ok (.istore 5, 2) := dk_54 5 (dk_at dksX6_contest_1 17 rfl rfl)
theorem dX6_contest_43 : decode cX6_contest 43 = .ok (.iconst 0, 1) := dk_3 (dk_at dksX6_contest_1 19 rfl rfl)
theorem dX6_contest_44 : decode cX6_contest 44 = .ok (.istore 6, 2) := dk_54 6 (dk_at dksX6_contest_1 20 rfl rfl)
theorem dX6_contest_46 : decode cX6_contest 46 = .ok (.iload 6, 2) := dk_21 6 (dk_at dksX6_contest_1 22 rfl rfl)
theorem dX6_contest_48 : decode cX6_contest 48 = .ok (.aload_n 0, 1) := dk_42 (dk_at dksX6_contest_2 0 rfl rfl)
theorem dX6_contest_49 : decode cX6_contest 49 = .ok (.getfield 225, 3) := dk_180 0 225 (dk_at dksX6_contest_2 1 rfl rfl)
theorem dX6_contest_52 : decode cX6_contest 52 = .ok (.if_icmp .ge 109, 3) := dk_162 0 109 (dk_at dksX6_contest_2 4 rfl rfl)
theorem dX6_contest_55 : decode cX6_contest 55 = .ok (.iconst 0, 1) := dk_3 (dk_at dksX6_contest_2 7 rfl rfl)
theorem dX6_contest_56 : decode cX6_contest 56 = .ok (.istore 7, 2) := dk_54 7 (dk_at dksX6_contest_2 8 rfl rfl)
theorem dX6_contest_58 : decode cX6_contest 58 = .ok (.iconst 1, 1) := dk_4 (dk_at dksX6_contest_2 10 rfl rfl)
theorem dX6_contest_59 : decode cX6_contest 59 = .ok (.istore 8, 2) := dk_54 8 (dk_at dksX6_contest_2 11 rfl rfl)
theorem dX6_contest_61 : decode cX6_contest 61 = .ok (.iload 8, 2) := dk_21 8 (dk_at dksX6_contest_2 13 rfl rfl)
theorem dX6_contest_63 : decode cX6_contest 63 = .ok (.iload_n 2, 1) := dk_28 (dk_at dksX6_contest_2 15 rfl rfl)
theorem dX6_contest_64 : decode cX6_contest 64 = .ok (.if_icmp .gt 73, 3) := dk_163 0 73 (dk_at dksX6_contest_2 16 rfl rfl)
theorem dX6_contest_67 : decode cX6_contest 67 = .ok (.aload_n 0, 1) := dk_42 (dk_at dksX6_contest_2 19 rfl rfl)
theorem dX6_contest_68 : decode cX6_contest 68 = .ok (.iload 6, 2) := dk_21 6 (dk_at dksX6_contest_2 20 rfl rfl)
theorem dX6_contest_70 : decode cX6_contest 70 = .ok (.iload 8, 2) := dk_21 8 (dk_at dksX6_contest_2 22 rfl rfl)
theorem dX6_contest_72 : decode cX6_contest 72 = .ok (.invokevirtual 478, 3) := dk_182 1 222 (dk_at dksX6_contest_3 0 rfl rfl)
theorem dX6_contest_75 : decode cX6_contest 75 = .ok (.iconst 0, 1) := dk_3 (dk_at dksX6_contest_3 3 rfl rfl)
theorem dX6_contest_76 : decode cX6_contest 76 = .ok (.istore 9, 2) := dk_54 9 (dk_at dksX6_contest_3 4 rfl rfl)
theorem dX6_contest_78 : decode cX6_contest 78 = .ok (.iload 9, 2) := dk_21 9 (dk_at dksX6_contest_3 6 rfl rfl)
theorem dX6_contest_80 : decode cX6_contest 80 = .ok (.iload_n 3, 1) := dk_29 (dk_at dksX6_contest_3 8 rfl rfl)
theorem dX6_contest_81 : decode cX6_contest 81 = .ok (.if_icmp .ge 17, 3) := dk_162 0 17 (dk_at dksX6_contest_3 9 rfl rfl)
theorem dX6_contest_84 : decode cX6_contest 84 = .ok (.aload_n 0, 1) := dk_42 (dk_at dksX6_contest_3 12 rfl rfl)
theorem dX6_contest_85 : decode cX6_contest 85 = .ok (.aload_n 0, 1) := dk_42 (dk_at dksX6_contest_3 13 rfl rfl)
theorem dX6_contest_86 : decode cX6_contest 86 = .ok (.getfield 272, 3) := dk_180 1 16 (dk_at dksX6_contest_3 14 rfl rfl)
theorem dX6_contest_89 : decode cX6_contest 89 = .ok (.invokevirtual 422, 3) := dk_182 1 166 (dk_at dksX6_contest_3 17 rfl rfl)
theorem dX6_contest_92 : decode cX6_contest 92 = .ok (.iinc 9 1, 3) := dk_132 9 1 (dk_at dksX6_contest_3 20 rfl rfl)
theorem dX6_contest_95 : decode cX6_contest 95 = .ok (.goto (-17), 3) := dk_167 255 239 (dk_at dksX6_contest_4 0 rfl rfl)
theorem dX6_contest_98 : decode cX6_contest 98 = .ok (.iload 7, 2) := dk_21 7 (dk_at dksX6_contest_4 3 rfl rfl)
theorem dX6_contest_100 : decode cX6_contest 100 = .ok (.iload_n 1, 1) := dk_27 (dk_at dksX6_contest_4 5 rfl rfl)
theorem dX6_contest_101 : decode cX6_contest 101 = .ok (.ifCond .ne 12, 3) := dk_154 0 12 (dk_at dksX6_contest_4 6 rfl rfl)
theorem dX6_contest_104 : decode cX6_contest 104 = .ok (.aload_n 0, 1) := dk_42 (dk_at dksX6_contest_4 9 rfl rfl)
theorem dX6_contest_105 : decode cX6_contest 105 = .ok (.iconst 0, 1) := dk_3 (dk_at dksX6_contest_4 10 rfl rfl)
theorem dX6_contest_106 : decode cX6_contest 106 = .ok (.iload_n 3, 1) := dk_29 (dk_at dksX6_contest_4 11 rfl rfl)
theorem dX6_contest_107 : decode cX6_contest 107 = .ok (.invokevirtual 482, 3) := dk_182 1 226 (dk_at dksX6_contest_4 12 rfl rfl)
theorem dX6_contest_110 : decode cX6_contest 110 = .ok (.goto 18, 3) := dk_167 0 18 (dk_at dksX6_contest_4 15 rfl rfl)
theorem dX6_contest_113 : decode cX6_contest 113 = .ok (.aload_n 0, 1) := dk_42 (dk_at dksX6_contest_4 18 rfl rfl)
theorem dX6_contest_114 : decode cX6_contest 114 = .ok (.getfield 272, 3) := dk_180 1 16 (dk_at dksX6_contest_4 19 rfl rfl)
theorem dX6_contest_117 : decode cX6_contest 117 = .ok (.iconst 0, 1) := dk_3 (dk_at dksX6_contest_4 22 rfl rfl)
theorem dX6_contest_118 : decode cX6_contest 118 = .ok (.aload_n 0, 1) := dk_42 (dk_at dksX6_contest_4 23 rfl rfl)
theorem dX6_contest_119 : decode cX6_contest 119 = .ok (.getfield 272, 3) := dk_180 1 16 (dk_at dksX6_contest_5 0 rfl rfl)
theorem dX6_contest_122 : decode cX6_contest 122 = .ok (.sipush 256, 3) := dk_17 1 0 (dk_at dksX6_contest_5 3 rfl rfl)
theorem dX6_contest_125 : decode cX6_contest 125 = .ok (.iaload, 1) := dk_46 (dk_at dksX6_contest_5 6 rfl rfl)
theorem dX6_contest_126 : decode cX6_contest 126 = .ok (.iadd, 1) := dk_96 (dk_at dksX6_contest_5 7 rfl rfl)
theorem dX6_contest_127 : decode cX6_contest 127 = .ok (.iaload, 1) := dk_46 (dk_at dksX6_contest_5 8 rfl rfl)
theorem dX6_contest_128 : decode cX6_contest 128 = .ok (.iadd, 1) := dk_96 (dk_at dksX6_contest_5 9 rfl rfl)
theorem dX6_contest_129 : decode cX6_contest 129 = .ok (.istore 7, 2) := dk_54 7 (dk_at dksX6_contest_5 10 rfl rfl)
theorem dX6_contest_131 : decode cX6_contest 131 = .ok (.iinc 8 1, 3) := dk_132 8 1 (dk_at dksX6_contest_5 12 rfl rfl)
theorem dX6_contest_134 : decode cX6_contest 134 = .ok (.goto (-73), 3) := dk_167 255 183 (dk_at dksX6_contest_5 15 rfl rfl)
theorem dX6_contest_137 : decode cX6_contest 137 = .ok (.iload 7, 2) := dk_21 7 (dk_at dksX6_contest_5 18 rfl rfl)
theorem dX6_contest_139 : decode cX6_contest 139 = .ok (.iload 5, 2) := dk_21 5 (dk_at dksX6_contest_5 20 rfl rfl)
theorem dX6_contest_141 : decode cX6_contest 141 = .ok (.if_icmp .gt 6, 3) := dk_163 0 6 (dk_at dksX6_contest_6 0 rfl rfl)
theorem dX6_contest_144 : decode cX6_contest 144 = .ok (.goto 11, 3) := dk_167 0 11 (dk_at dksX6_contest_6 3 rfl rfl)
theorem dX6_contest_147 : decode cX6_contest 147 = .ok (.iload 7, 2) := dk_21 7 (dk_at dksX6_contest_6 6 rfl rfl)
theorem dX6_contest_149 : decode cX6_contest 149 = .ok (.istore 5, 2) := dk_54 5 (dk_at dksX6_contest_6 8 rfl rfl)
theorem dX6_contest_151 : decode cX6_contest 151 = .ok (.iload 6, 2) := dk_21 6 (dk_at dksX6_contest_6 10 rfl rfl)
theorem dX6_contest_153 : decode cX6_contest 153 = .ok (.istore 4, 2) := dk_54 4 (dk_at dksX6_contest_6 12 rfl rfl)
theorem dX6_contest_155 : decode cX6_contest 155 = .ok (.iinc 6 1, 3) := dk_132 6 1 (dk_at dksX6_contest_6 14 rfl rfl)
theorem dX6_contest_158 : decode cX6_contest 158 = .ok (.goto (-112), 3) := dk_167 255 144 (dk_at dksX6_contest_6 17 rfl rfl)
theorem dX6_contest_161 : decode cX6_contest 161 = .ok (.iload 4, 2) := dk_21 4 (dk_at dksX6_contest_6 20 rfl rfl)
theorem dX6_contest_163 : decode cX6_contest 163 = .ok (.ireturn, 1) := dk_172 (dk_at dksX6_contest_6 22 rfl rfl)
abbrev cX6_which : ByteArray := prog_16_method_100_code
def yX6_which : MethodName := ⟨RX6, "which", "()I"⟩
def dkwX6_which_7 : List UInt8 := [21, 4, 153, 0, 9, 4, 29, 120, 167, 0, 4, 3, 128, 61, 132, 3, 1, 167, 255, 136, 28, 172]
abbrev dktX6_which_7 : List UInt8 := dkwX6_which_7 ++ []
def dkwX6_which_6 : List UInt8 := [21, 5, 51, 16, 32, 100, 160, 0, 7, 4, 167, 0, 4, 3, 54, 4, 132, 5, 1, 167, 255, 213, 28]
abbrev dktX6_which_6 : List UInt8 := dkwX6_which_6 ++ dktX6_which_7
def dkwX6_which_5 : List UInt8 := [21, 5, 27, 162, 0, 43, 21, 4, 153, 0, 29, 42, 180, 1, 16, 3, 21, 5, 96, 46, 42, 180, 0, 16]
abbrev dktX6_which_5 : List UInt8 := dkwX6_which_5 ++ dktX6_which_6
def dkwX6_which_4 : List UInt8 := [6, 29, 104, 5, 96, 46, 182, 1, 129, 42, 42, 180, 1, 16, 182, 1, 149, 4, 54, 4, 3, 54, 5]
abbrev dktX6_which_4 : List UInt8 := dkwX6_which_4 ++ dktX6_which_5
def dkwX6_which_3 : List UInt8 := [2, 4, 182, 1, 222, 42, 42, 180, 1, 16, 42, 180, 1, 0, 6, 29, 104, 4, 96, 46, 42, 180, 1, 0]
abbrev dktX6_which_3 : List UInt8 := dkwX6_which_3 ++ dktX6_which_4
def dkwX6_which_2 : List UInt8 := [154, 0, 5, 2, 172, 132, 2, 1, 167, 255, 227, 3, 61, 3, 62, 29, 42, 180, 1, 78, 162, 0, 118, 42]
abbrev dktX6_which_2 : List UInt8 := dkwX6_which_2 ++ dktX6_which_3
def dkwX6_which_1 : List UInt8 := [172, 3, 61, 28, 27, 162, 0, 30, 42, 180, 0, 16, 28, 51, 133, 20, 1, 254, 20, 2, 0, 184, 0, 52]
abbrev dktX6_which_1 : List UInt8 := dkwX6_which_1 ++ dktX6_which_2
def dkwX6_which_0 : List UInt8 := [42, 180, 0, 67, 60, 42, 3, 181, 0, 67, 27, 42, 180, 0, 201, 42, 180, 0, 204, 104, 159, 0, 5, 2]
abbrev dktX6_which_0 : List UInt8 := dkwX6_which_0 ++ dktX6_which_1
theorem dksX6_which_0 : cX6_which.data.toList.drop 0 = dktX6_which_0 := by decide +kernel
theorem dksX6_which_1 : cX6_which.data.toList.drop 24 = dktX6_which_1 := dk_seg dksX6_which_0 24 rfl rfl
theorem dksX6_which_2 : cX6_which.data.toList.drop 48 = dktX6_which_2 := dk_seg dksX6_which_1 24 rfl rfl
theorem dksX6_which_3 : cX6_which.data.toList.drop 72 = dktX6_which_3 := dk_seg dksX6_which_2 24 rfl rfl
theorem dksX6_which_4 : cX6_which.data.toList.drop 96 = dktX6_which_4 := dk_seg dksX6_which_3 24 rfl rfl
theorem dksX6_which_5 : cX6_which.data.toList.drop 119 = dktX6_which_5 := dk_seg dksX6_which_4 23 rfl rfl
theorem dksX6_which_6 : cX6_which.data.toList.drop 143 = dktX6_which_6 := dk_seg dksX6_which_5 24 rfl rfl
theorem dksX6_which_7 : cX6_which.data.toList.drop 166 = dktX6_which_7 := dk_seg dksX6_which_6 23 rfl rfl
theorem dX6_which_0 : decode cX6_which 0 = .ok (.aload_n 0, 1) := dk_42 (dk_at dksX6_which_0 0 rfl rfl)
theorem dX6_which_1 : decode cX6_which 1 = .ok (.getfield 67, 3) := dk_180 0 67 (dk_at dksX6_which_0 1 rfl rfl)
theorem dX6_which_4 : decode cX6_which 4 = .ok (.istore_n 1, 1) := dk_60 (dk_at dksX6_which_0 4 rfl rfl)
theorem dX6_which_5 : decode cX6_which 5 = .ok (.aload_n 0, 1) := dk_42 (dk_at dksX6_which_0 5 rfl rfl)
theorem dX6_which_6 : decode cX6_which 6 = .ok (.iconst 0, 1) := dk_3 (dk_at dksX6_which_0 6 rfl rfl)
theorem dX6_which_7 : decode cX6_which 7 = .ok (.putfield 67, 3) := dk_181 0 67 (dk_at dksX6_which_0 7 rfl rfl)
theorem dX6_which_10 : decode cX6_which 10 = .ok (.iload_n 1, 1) := dk_27 (dk_at dksX6_which_0 10 rfl rfl)
theorem dX6_which_11 : decode cX6_which 11 = .ok (.aload_n 0, 1) := dk_42 (dk_at dksX6_which_0 11 rfl rfl)
theorem dX6_which_12 : decode cX6_which 12 = .ok (.getfield 201, 3) := dk_180 0 201 (dk_at dksX6_which_0 12 rfl rfl)
theorem dX6_which_15 : decode cX6_which 15 = .ok (.aload_n 0, 1) := dk_42 (dk_at dksX6_which_0 15 rfl rfl)
theorem dX6_which_16 : decode cX6_which 16 = .ok (.getfield 204, 3) := dk_180 0 204 (dk_at dksX6_which_0 16 rfl rfl)
theorem dX6_which_19 : decode cX6_which 19 = .ok (.imul, 1) := dk_104 (dk_at dksX6_which_0 19 rfl rfl)
theorem dX6_which_20 : decode cX6_which 20 = .ok (.if_icmp .eq 5, 3) := dk_159 0 5 (dk_at dksX6_which_0 20 rfl rfl)
theorem dX6_which_23 : decode cX6_which 23 = .ok (.iconst (-1), 1) := dk_2 (dk_at dksX6_which_0 23 rfl rfl)
theorem dX6_which_24 : decode cX6_which 24 = .ok (.ireturn, 1) := dk_172 (dk_at dksX6_which_1 0 rfl rfl)
theorem dX6_which_25 : decode cX6_which 25 = .ok (.iconst 0, 1) := dk_3 (dk_at dksX6_which_1 1 rfl rfl)
theorem dX6_which_26 : decode cX6_which 26 = .ok (.istore_n 2, 1) := dk_61 (dk_at dksX6_which_1 2 rfl rfl)
theorem dX6_which_27 : decode cX6_which 27 = .ok (.iload_n 2, 1) := dk_28 (dk_at dksX6_which_1 3 rfl rfl)
theorem dX6_which_28 : decode cX6_which 28 = .ok (.iload_n 1, 1) := dk_27 (dk_at dksX6_which_1 4 rfl rfl)
theorem dX6_which_29 : decode cX6_which 29 = .ok (.if_icmp .ge 30, 3) := dk_162 0 30 (dk_at dksX6_which_1 5 rfl rfl)
theorem dX6_which_32 : decode cX6_which 32 = .ok (.aload_n 0, 1) := dk_42 (dk_at dksX6_which_1 8 rfl rfl)
theorem dX6_which_33 : decode cX6_which 33 = .ok (.getfield 16, 3) := dk_180 0 16 (dk_at dksX6_which_1 9 rfl rfl)
theorem dX6_which_36 : decode cX6_which 36 = .ok (.iload_n 2, 1) := dk_28 (dk_at dksX6_which_1 12 rfl rfl)
theorem dX6_which_37 : decode cX6_which 37 = .ok (.baload, 1) := dk_51 (dk_at dksX6_which_1 13 rfl rfl)
theorem dX6_which_38 : decode cX6_which 38 = .ok (.i2l, 1) := dk_133 (dk_at dksX6_which_1 14 rfl rfl)
theorem dX6_which_39 : decode cX6_which 39 = .ok (.ldc2_w 510, 3) := dk_20 1 254 (dk_at dksX6_which_1 15 rfl rfl)
theorem dX6_which_42 : decode cX6_which 42 = .ok (.ldc2_w 512, 3) := dk_20 2 0 (dk_at dksX6_which_1 18 rfl rfl)
theorem dX6_which_45 : decode cX6_which 45 = .ok (.invokestatic 52, 3) := dk_184 0 52 (dk_at dksX6_which_1 21 rfl rfl)
theorem dX6_which_48 : decode cX6_which 48 = .ok (.ifCond .ne 5, 3) := dk_154 0 5 (dk_at dksX6_which_2 0 rfl rfl)
theorem dX6_which_51 : decode cX6_which 51 = .ok (.iconst (-1), 1) := dk_2 (dk_at dksX6_which_2 3 rfl rfl)
theorem dX6_which_52 : decode cX6_which 52 = .ok (.ireturn, 1) := dk_172 (dk_at dksX6_which_2 4 rfl rfl)
theorem dX6_which_53 : decode cX6_which 53 = .ok (.iinc 2 1, 3) := dk_132 2 1 (dk_at dksX6_which_2 5 rfl rfl)
theorem dX6_which_56 : decode cX6_which 56 = .ok (.goto (-29), 3) := dk_167 255 227 (dk_at dksX6_which_2 8 rfl rfl)
theorem dX6_which_59 : decode cX6_which 59 = .ok (.iconst 0, 1) := dk_3 (dk_at dksX6_which_2 11 rfl rfl)
theorem dX6_which_60 : decode cX6_which 60 = .ok (.istore_n 2, 1) := dk_61 (dk_at dksX6_which_2 12 rfl rfl)
theorem dX6_which_61 : decode cX6_which 61 = .ok (.iconst 0, 1) := dk_3 (dk_at dksX6_which_2 13 rfl rfl)
theorem dX6_which_62 : decode cX6_which 62 = .ok (.istore_n 3, 1) := dk_62 (dk_at dksX6_which_2 14 rfl rfl)
theorem dX6_which_63 : decode cX6_which 63 = .ok (.iload_n 3, 1) := dk_29 (dk_at dksX6_which_2 15 rfl rfl)
theorem dX6_which_64 : decode cX6_which 64 = .ok (.aload_n 0, 1) := dk_42 (dk_at dksX6_which_2 16 rfl rfl)
theorem dX6_which_65 : decode cX6_which 65 = .ok (.getfield 334, 3) := dk_180 1 78 (dk_at dksX6_which_2 17 rfl rfl)
theorem dX6_which_68 : decode cX6_which 68 = .ok (.if_icmp .ge 118, 3) := dk_162 0 118 (dk_at dksX6_which_2 20 rfl rfl)
theorem dX6_which_71 : decode cX6_which 71 = .ok (.aload_n 0, 1) := dk_42 (dk_at dksX6_which_2 23 rfl rfl)
theorem dX6_which_72 : decode cX6_which 72 = .ok (.iconst (-1), 1) := dk_2 (dk_at dksX6_which_3 0 rfl rfl)
theorem dX6_which_73 : decode cX6_which 73 = .ok (.iconst 1, 1) := dk_4 (dk_at dksX6_which_3 1 rfl rfl)
theorem dX6_which_74 : decode cX6_which 74 = .ok (.invokevirtual 478, 3) := dk_182 1 222 (dk_at dksX6_which_3 2 rfl rfl)
theorem dX6_which_77 : decode cX6_which 77 = .ok (.aload_n 0, 1) := dk_42 (dk_at dksX6_which_3 5 rfl rfl)
theorem dX6_which_78 : decode cX6_which 78 = .ok (.aload_n 0, 1) := dk_42 (dk_at dksX6_which_3 6 rfl rfl)
theorem dX6_which_79 : decode cX6_which 79 = .ok (.getfield 272, 3) := dk_180 1 16 (dk_at dksX6_which_3 7 rfl rfl)
theorem dX6_which_82 : decode cX6_which 82 = .ok (.aload_n 0, 1) := dk_42 (dk_at dksX6_which_3 10 rfl rfl)
theorem dX6_which_83 : decode cX6_which 83 = .ok (.getfield 256, 3) := dk_180 1 0 (dk_at dksX6_which_3 11 rfl rfl)
theorem dX6_which_86 : decode cX6_which 86 = .ok (.iconst 3, 1) := dk_6 (dk_at dksX6_which_3 14 rfl rfl)
theorem dX6_which_87 : decode cX6_which 87 = .ok (.iload_n 3, 1) := dk_29 (dk_at dksX6_which_3 15 rfl rfl)
theorem dX6_which_88 : decode cX6_which 88 = .ok (.imul, 1) := dk_104 (dk_at dksX6_which_3 16 rfl rfl)
theorem dX6_which_89 : decode cX6_which 89 = .ok (.iconst 1, 1) := dk_4 (dk_at dksX6_which_3 17 rfl rfl)
theorem dX6_which_90 : decode cX6_which 90 = .ok (.iadd, 1) := dk_96 (dk_at dksX6_which_3 18 rfl rfl)
theorem dX6_which_91 : decode cX6_which 91 = .ok (.iaload, 1) := dk_46 (dk_at dksX6_which_3 19 rfl rfl)
theorem dX6_which_92 : decode cX6_which 92 = .ok (.aload_n 0, 1) := dk_42 (dk_at dksX6_which_3 20 rfl rfl)
theorem dX6_which_93 : decode cX6_which 93 = .ok (.getfield 256, 3) := dk_180 1 0 (dk_at dksX6_which_3 21 rfl rfl)
theorem dX6_which_96 : decode cX6_which 96 = .ok (.iconst 3, 1) := dk_6 (dk_at dksX6_which_4 0 rfl rfl)
theorem dX6_which_97 : decode cX6_which 97 = .ok (.iload_n 3, 1) := dk_29 (dk_at dksX6_which_4 1 rfl rfl)
theorem dX6_which_98 : decode cX6_which 98 = .ok (.imul, 1) := dk_104 (dk_at dksX6_which_4 2 rfl rfl)
theorem dX6_which_99 : decode cX6_which 99 = .ok (.iconst 2, 1) := dk_5 (dk_at dksX6_which_4 3 rfl rfl)
theorem dX6_which_100 : decode cX6_which 100 = .ok (.iadd, 1) := dk_96 (dk_at dksX6_which_4 4 rfl rfl)
theorem dX6_which_101 : decode cX6_which 101 = .ok (.iaload, 1) := dk_46 (dk_at dksX6_which_4 5 rfl rfl)
theorem dX6_which_102 : decode cX6_which 102 = .ok (.invokevirtual 385, 3) := dk_182 1 129 (dk_at dksX6_which_4 6 rfl rfl)
theorem dX6_which_105 : decode cX6_which 105 = .ok (.aload_n 0, 1) := dk_42 (dk_at dksX6_which_4 9 rfl rfl)
theorem dX6_which_106 : decode cX6_which 106 = .ok (.aload_n 0, 1) := dk_42 (dk_at dksX6_which_4 10 rfl rfl)
theorem dX6_which_107 : decode cX6_which 107 = .ok (.getfield 272, 3) := dk_180 1 16 (dk_at dksX6_which_4 11 rfl rfl)
theorem dX6_which_110 : decode cX6_which 110 = .ok (.invokevirtual 405, 3) := dk_182 1 149 (dk_at dksX6_which_4 14 rfl rfl)
theorem dX6_which_113 : decode cX6_which 113 = .ok (.iconst 1, 1) := dk_4 (dk_at dksX6_which_4 17 rfl rfl)
theorem dX6_which_114 : decode cX6_which 114 = .ok (.istore 4, 2) := dk_54 4 (dk_at dksX6_which_4 18 rfl rfl)
theorem dX6_which_116 : decode cX6_which 116 = .ok (.iconst 0, 1) := dk_3 (dk_at dksX6_which_4 20 rfl rfl)
theorem dX6_which_117 : decode cX6_which 117 = .ok (.istore 5, 2) := dk_54 5 (dk_at dksX6_which_4 21 rfl rfl)
theorem dX6_which_119 : decode cX6_which 119 = .ok (.iload 5, 2) := dk_21 5 (dk_at dksX6_which_5 0 rfl rfl)
theorem dX6_which_121 : decode cX6_which 121 = .ok (.iload_n 1, 1) := dk_27 (dk_at dksX6_which_5 2 rfl rfl)
theorem dX6_which_122 : decode cX6_which 122 = .ok (.if_icmp .ge 43, 3) := dk_162 0 43 (dk_at dksX6_which_5 3 rfl rfl)
theorem dX6_which_125 : decode cX6_which 125 = .ok (.iload 4, 2) := dk_21 4 (dk_at dksX6_which_5 6 rfl rfl)
theorem dX6_which_127 : decode cX6_which 127 = .ok (.ifCond .eq 29, 3) := dk_153 0 29 (dk_at dksX6_which_5 8 rfl rfl)
theorem dX6_which_130 : decode cX6_which 130 = .ok (.aload_n 0, 1) := dk_42 (dk_at dksX6_which_5 11 rfl rfl)
theorem dX6_which_131 : decode cX6_which 131 = .ok (.getfield 272, 3) := dk_180 1 16 (dk_at dksX6_which_5 12 rfl rfl)
theorem dX6_which_134 : decode cX6_which 134 = .ok (.iconst 0, 1) := dk_3 (dk_at dksX6_which_5 15 rfl rfl)
theorem dX6_which_135 : decode cX6_which 135 = .ok (.iload 5, 2) := dk_21 5 (dk_at dksX6_which_5 16 rfl rfl)
theorem dX6_which_137 : decode cX6_which 137 = .ok (.iadd, 1) := dk_96 (dk_at dksX6_which_5 18 rfl rfl)
theorem dX6_which_138 : decode cX6_which 138 = .ok (.iaload, 1) := dk_46 (dk_at dksX6_which_5 19 rfl rfl)
theorem dX6_which_139 : decode cX6_which 139 = .ok (.aload_n 0, 1) := dk_42 (dk_at dksX6_which_5 20 rfl rfl)
theorem dX6_which_140 : decode cX6_which 140 = .ok (.getfield 16, 3) := dk_180 0 16 (dk_at dksX6_which_5 21 rfl rfl)
theorem dX6_which_143 : decode cX6_which 143 = .ok (.iload 5, 2) := dk_21 5 (dk_at dksX6_which_6 0 rfl rfl)
theorem dX6_which_145 : decode cX6_which 145 = .ok (.baload, 1) := dk_51 (dk_at dksX6_which_6 2 rfl rfl)
theorem dX6_which_146 : decode cX6_which 146 = .ok (.bipush 32, 2) := dk_16 32 (dk_at dksX6_which_6 3 rfl rfl)
theorem dX6_which_148 : decode cX6_which 148 = .ok (.isub, 1) := dk_100 (dk_at dksX6_which_6 5 rfl rfl)
theorem dX6_which_149 : decode cX6_which 149 = .ok (.if_icmp .ne 7, 3) := dk_160 0 7 (dk_at dksX6_which_6 6 rfl rfl)
theorem dX6_which_152 : decode cX6_which 152 = .ok (.iconst 1, 1) := dk_4 (dk_at dksX6_which_6 9 rfl rfl)
theorem dX6_which_153 : decode cX6_which 153 = .ok (.goto 4, 3) := dk_167 0 4 (dk_at dksX6_which_6 10 rfl rfl)
theorem dX6_which_156 : decode cX6_which 156 = .ok (.iconst 0, 1) := dk_3 (dk_at dksX6_which_6 13 rfl rfl)
theorem dX6_which_157 : decode cX6_which 157 = .ok (.istore 4, 2) := dk_54 4 (dk_at dksX6_which_6 14 rfl rfl)
theorem dX6_which_159 : decode cX6_which 159 = .ok (.iinc 5 1, 3) := dk_132 5 1 (dk_at dksX6_which_6 16 rfl rfl)
theorem dX6_which_162 : decode cX6_which 162 = .ok (.goto (-43), 3) := dk_167 255 213 (dk_at dksX6_which_6 19 rfl rfl)
theorem dX6_which_165 : decode cX6_which 165 = .ok (.iload_n 2, 1) := dk_28 (dk_at dksX6_which_6 22 rfl rfl)
theorem dX6_which_166 : decode cX6_which 166 = .ok (.iload 4, 2) := dk_21 4 (dk_at dksX6_which_7 0 rfl rfl)
theorem dX6_which_168 : decode cX6_which 168 = .ok (.ifCond .eq 9, 3) := dk_153 0 9 (dk_at dksX6_which_7 2 rfl rfl)
theorem dX6_which_171 : decode cX6_which 171 = .ok (.iconst 1, 1) := dk_4 (dk_at dksX6_which_7 5 rfl rfl)
theorem dX6_which_172 : decode cX6_which 172 = .ok (.iload_n 3, 1) := dk_29 (dk_at dksX6_which_7 6 rfl rfl)
theorem dX6_which_173 : decode cX6_which 173 = .ok (.ishl, 1) := dk_120 (dk_at dksX6_which_7 7 rfl rfl)
theorem dX6_which_174 : decode cX6_which 174 = .ok (.goto 4, 3) := dk_167 0 4 (dk_at dksX6_which_7 8 rfl rfl)
theorem dX6_which_177 : decode cX6_which 177 = .ok (.iconst 0, 1) := dk_3 (dk_at dksX6_which_7 11 rfl rfl)
theorem dX6_which_178 : decode cX6_which 178 = .ok (.ior, 1) := dk_128 (dk_at dksX6_which_7 12 rfl rfl)
theorem dX6_which_179 : decode cX6_which 179 = .ok (.istore_n 2, 1) := dk_61 (dk_at dksX6_which_7 13 rfl rfl)
theorem dX6_which_180 : decode cX6_which 180 = .ok (.iinc 3 1, 3) := dk_132 3 1 (dk_at dksX6_which_7 14 rfl rfl)
theorem dX6_which_183 : decode cX6_which 183 = .ok (.goto (-120), 3) := dk_167 255 136 (dk_at dksX6_which_7 17 rfl rfl)
theorem dX6_which_186 : decode cX6_which 186 = .ok (.iload_n 2, 1) := dk_28 (dk_at dksX6_which_7 20 rfl rfl)
theorem dX6_which_187 : decode cX6_which 187 = .ok (.ireturn, 1) := dk_172 (dk_at dksX6_which_7 21 rfl rfl)
abbrev cX6_join : ByteArray := prog_16_method_101_code
def yX6_join : MethodName := ⟨RX6, "join", "(IIIIII)I"⟩
def dkwX6_join_9 : List UInt8 := [172]
abbrev dktX6_join_9 : List UInt8 := dkwX6_join_9 ++ []
def dkwX6_join_8 : List UInt8 := [54, 9, 21, 10, 54, 8, 132, 10, 1, 167, 255, 173, 21, 6, 154, 0, 8, 21, 8, 167, 0, 5, 21, 9]
abbrev dktX6_join_8 : List UInt8 := dkwX6_join_8 ++ dktX6_join_9
def dkwX6_join_7 : List UInt8 := [21, 12, 108, 96, 54, 13, 21, 9, 2, 159, 0, 13, 21, 13, 21, 9, 161, 0, 6, 167, 0, 11, 21, 13]
abbrev dktX6_join_7 : List UInt8 := dkwX6_join_7 ++ dktX6_join_8
def dkwX6_join_6 : List UInt8 := [96, 54, 11, 29, 21, 4, 96, 21, 5, 104, 54, 12, 21, 10, 16, 100, 21, 11, 104, 21, 12, 96, 4, 100]
abbrev dktX6_join_6 : List UInt8 := dkwX6_join_6 ++ dktX6_join_7
def dkwX6_join_5 : List UInt8 := [16, 99, 163, 0, 82, 21, 7, 29, 21, 10, 104, 184, 2, 6, 21, 7, 21, 4, 21, 10, 104, 184, 2, 6]
abbrev dktX6_join_5 : List UInt8 := dkwX6_join_5 ++ dktX6_join_6
def dkwX6_join_4 : List UInt8 := [104, 96, 54, 7, 21, 8, 28, 100, 54, 8, 167, 255, 236, 3, 54, 8, 2, 54, 9, 3, 54, 10, 21, 10]
abbrev dktX6_join_4 : List UInt8 := dkwX6_join_4 ++ dktX6_join_5
def dkwX6_join_3 : List UInt8 := [154, 0, 6, 16, 254, 172, 27, 54, 7, 27, 28, 100, 54, 8, 21, 8, 158, 0, 21, 21, 7, 5, 21, 8]
abbrev dktX6_join_3 : List UInt8 := dkwX6_join_3 ++ dktX6_join_4
def dkwX6_join_2 : List UInt8 := [153, 0, 27, 21, 5, 133, 10, 20, 2, 4, 184, 0, 52, 153, 0, 14, 21, 6, 133, 9, 10, 184, 0, 52]
abbrev dktX6_join_2 : List UInt8 := dkwX6_join_2 ++ dktX6_join_3
def dkwX6_join_1 : List UInt8 := [29, 133, 10, 20, 2, 2, 184, 0, 52, 153, 0, 40, 21, 4, 133, 10, 20, 2, 2, 184, 0, 52]
abbrev dktX6_join_1 : List UInt8 := dkwX6_join_1 ++ dktX6_join_2
def dkwX6_join_0 : List UInt8 := [27, 133, 10, 20, 1, 217, 184, 0, 52, 153, 0, 64, 28, 133, 10, 20, 1, 217, 184, 0, 52, 153, 0, 52]
abbrev dktX6_join_0 : List UInt8 := dkwX6_join_0 ++ dktX6_join_1
theorem dksX6_join_0 : cX6_join.data.toList.drop 0 = dktX6_join_0 := by decide +kernel
theorem dksX6_join_1 : cX6_join.data.toList.drop 24 = dktX6_join_1 := dk_seg dksX6_join_0 24 rfl rfl
theorem dksX6_join_2 : cX6_join.data.toList.drop 46 = dktX6_join_2 := dk_seg dksX6_join_1 22 rfl rfl
theorem dksX6_join_3 : cX6_join.data.toList.drop 70 = dktX6_join_3 := dk_seg dksX6_join_2 24 rfl rfl
theorem dksX6_join_4 : cX6_join.data.toList.drop 94 = dktX6_join_4 := dk_seg dksX6_join_3 24 rfl rfl
theorem dksX6_join_5 : cX6_join.data.toList.drop 118 = dktX6_join_5 := dk_seg dksX6_join_4 24 rfl rfl
theorem dksX6_join_6 : cX6_join.data.toList.drop 142 = dktX6_join_6 := dk_seg dksX6_join_5 24 rfl rfl
theorem dksX6_join_7 : cX6_join.data.toList.drop 166 = dktX6_join_7 := dk_seg dksX6_join_6 24 rfl rfl
theorem dksX6_join_8 : cX6_join.data.toList.drop 190 = dktX6_join_8 := dk_seg dksX6_join_7 24 rfl rfl
theorem dksX6_join_9 : cX6_join.data.toList.drop 214 = dktX6_join_9 := dk_seg dksX6_join_8 24 rfl rfl
theorem dX6_join_0 : decode cX6_join 0 = .ok (.iload_n 1, 1) := dk_27 (dk_at dksX6_join_0 0 rfl rfl)
theorem dX6_join_1 : decode cX6_join 1 = .ok (.i2l, 1) := dk_133 (dk_at dksX6_join_0 1 rfl rfl)
theorem dX6_join_2 : decode cX6_join 2 = .ok (.lconst 1, 1) := dk_10 (dk_at dksX6_join_0 2 rfl rfl)
theorem dX6_join_3 : decode cX6_join 3 = .ok (.ldc2_w 473, 3) := dk_20 1 217 (dk_at dksX6_join_0 3 rfl rfl)
theorem dX6_join_6 : decode cX6_join 6 = .ok (.invokestatic 52, 3) := dk_184 0 52 (dk_at dksX6_join_0 6 rfl rfl)
theorem dX6_join_9 : decode cX6_join 9 = .ok (.ifCond .eq 64, 3) := dk_153 0 64 (dk_at dksX6_join_0 9 rfl rfl)
theorem dX6_join_12 : decode cX6_join 12 = .ok (.iload_n 2, 1) := dk_28 (dk_at dksX6_join_0 12 rfl rfl)
theorem dX6_join_13 : decode cX6_join 13 = .ok (.i2l, 1) := dk_133 (dk_at dksX6_join_0 13 rfl rfl)
theorem dX6_join_14 : decode cX6_join 14 = .ok (.lconst 1, 1) := dk_10 (dk_at dksX6_join_0 14 rfl rfl)
theorem dX6_join_15 : decode cX6_join 15 = .ok (.ldc2_w 473, 3) := dk_20 1 217 (dk_at dksX6_join_0 15 rfl rfl)
theorem dX6_join_18 : decode cX6_join 18 = .ok (.invokestatic 52, 3) := dk_184 0 52 (dk_at dksX6_join_0 18 rfl rfl)
theorem dX6_join_21 : decode cX6_join 21 = .ok (.ifCond .eq 52, 3) := dk_153 0 52 (dk_at dksX6_join_0 21 rfl rfl)
theorem dX6_join_24 : decode cX6_join 24 = .ok (.iload_n 3, 1) := dk_29 (dk_at dksX6_join_1 0 rfl rfl)
theorem dX6_join_25 : decode cX6_join 25 = .ok (.i2l, 1) := dk_133 (dk_at dksX6_join_1 1 rfl rfl)
theorem dX6_join_26 : decode cX6_join 26 = .ok (.lconst 1, 1) := dk_10 (dk_at dksX6_join_1 2 rfl rfl)
theorem dX6_join_27 : decode cX6_join 27 = .ok (.ldc2_w 514, 3) := dk_20 2 2 (dk_at dksX6_join_1 3 rfl rfl)
theorem dX6_join_30 : decode cX6_join 30 = .ok (.invokestatic 52, 3) := dk_184 0 52 (dk_at dksX6_join_1 6 rfl rfl)
theorem dX6_join_33 : decode cX6_join 33 = .ok (.ifCond .eq 40, 3) := dk_153 0 40 (dk_at dksX6_join_1 9 rfl rfl)
theorem dX6_join_36 : decode cX6_join 36 = .ok (.iload 4, 2) := dk_21 4 (dk_at dksX6_join_1 12 rfl rfl)
theorem dX6_join_38 : decode cX6_join 38 = .ok (.i2l, 1) := dk_133 (dk_at dksX6_join_1 14 rfl rfl)
theorem dX6_join_39 : decode cX6_join 39 = .ok (.lconst 1, 1) := dk_10 (dk_at dksX6_join_1 15 rfl rfl)
theorem dX6_join_40 : decode cX6_join 40 = .ok (.ldc2_w 514, 3) := dk_20 2 2 (dk_at dksX6_join_1 16 rfl rfl)
theorem dX6_join_43 : decode cX6_join 43 = .ok (.invokestatic 52, 3) := dk_184 0 52 (dk_at dksX6_join_1 19 rfl rfl)
theorem dX6_join_46 : decode cX6_join 46 = .ok (.ifCond .eq 27, 3) := dk_153 0 27 (dk_at dksX6_join_2 0 rfl rfl)
theorem dX6_join_49 : decode cX6_join 49 = .ok (.iload 5, 2) := dk_21 5 (dk_at dksX6_join_2 3 rfl rfl)
theorem dX6_join_51 : decode cX6_join 51 = .ok (.i2l, 1) := dk_133 (dk_at dksX6_join_2 5 rfl rfl)
theorem dX6_join_52 : decode cX6_join 52 = .ok (.lconst 1, 1) := dk_10 (dk_at dksX6_join_2 6 rfl rfl)
theorem dX6_join_53 : decode cX6_join 53 = .ok (.ldc2_w 516, 3) := dk_20 2 4 (dk_at dksX6_join_2 7 rfl rfl)
theorem dX6_join_56 : decode cX6_join 56 = .ok (.invokestatic 52, 3) := dk_184 0 52 (dk_at dksX6_join_2 10 rfl rfl)
theorem dX6_join_59 : decode cX6_join 59 = .ok (.ifCond .eq 14, 3) := dk_153 0 14 (dk_at dksX6_join_2 13 rfl rfl)
theorem dX6_join_62 : decode cX6_join 62 = .ok (.iload 6, 2) := dk_21 6 (dk_at dksX6_join_2 16 rfl rfl)
theorem dX6_join_64 : decode cX6_join 64 = .ok (.i2l, 1) := dk_133 (dk_at dksX6_join_2 18 rfl rfl)
theorem dX6_join_65 : decode cX6_join 65 = .ok (.lconst 0, 1) := dk_9 (dk_at dksX6_join_2 19 rfl rfl)
theorem dX6_join_66 : decode cX6_join 66 = .ok (.lconst 1, 1) := dk_10 (dk_at dksX6_join_2 20 rfl rfl)
theorem dX6_join_67 : decode cX6_join 67 = .ok (.invokestatic 52, 3) := dk_184 0 52 (dk_at dksX6_join_2 21 rfl rfl)
theorem dX6_join_70 : decode cX6_join 70 = .ok (.ifCond .ne 6, 3) := dk_154 0 6 (dk_at dksX6_join_3 0 rfl rfl)
theorem dX6_join_73 : decode cX6_join 73 = .ok (.bipush (-2), 2) := dk_16 254 (dk_at dksX6_join_3 3 rfl rfl)
theorem dX6_join_75 : decode cX6_join 75 = .ok (.ireturn, 1) := dk_172 (dk_at dksX6_join_3 5 rfl rfl)
theorem dX6_join_76 : decode cX6_join 76 = .ok (.iload_n 1, 1) := dk_27 (dk_at dksX6_join_3 6 rfl rfl)
theorem dX6_join_77 : decode cX6_join 77 = .ok (.istore 7, 2) := dk_54 7 (dk_at dksX6_join_3 7 rfl rfl)
theorem dX6_join_79 : decode cX6_join 79 = .ok (.iload_n 1, 1) := dk_27 (dk_at dksX6_join_3 9 rfl rfl)
theorem dX6_join_80 : decode cX6_join 80 = .ok (.iload_n 2, 1) := dk_28 (dk_at dksX6_join_3 10 rfl rfl)
theorem dX6_join_81 : decode cX6_join 81 = .ok (.isub, 1) := dk_100 (dk_at dksX6_join_3 11 rfl rfl)
theorem dX6_join_82 : decode cX6_join 82 = .ok (.istore 8, 2) := dk_54 8 (dk_at dksX6_join_3 12 rfl rfl)
theorem dX6_join_84 : decode cX6_join 84 = .ok (.iload 8, 2) := dk_21 8 (dk_at dksX6_join_3 14 rfl rfl)
theorem dX6_join_86 : decode cX6_join 86 = .ok (.ifCond .le 21, 3) := dk_158 0 21 (dk_at dksX6_join_3 16 rfl rfl)
theorem dX6_join_89 : decode cX6_join 89 = .ok (.iload 7, 2) := dk_21 7 (dk_at dksX6_join_3 19 rfl rfl)
theorem dX6_join_91 : decode cX6_join 91 = .ok (.iconst 2, 1) := dk_5 (dk_at dksX6_join_3 21 rfl rfl)
theorem dX6_join_92 : decode cX6_join 92 = .ok (.iload 8, 2) := dk_21 8 (dk_at dksX6_join_3 22 rfl rfl)
theorem dX6_join_94 : decode cX6_join 94 = .ok (.imul, 1) := dk_104 (dk_at dksX6_join_4 0 rfl rfl)
theorem dX6_join_95 : decode cX6_join 95 = .ok (.iadd, 1) := dk_96 (dk_at dksX6_join_4 1 rfl rfl)
theorem dX6_join_96 : decode cX6_join 96 = .ok (.istore 7, 2) := dk_54 7 (dk_at dksX6_join_4 2 rfl rfl)
theorem dX6_join_98 : decode cX6_join 98 = .ok (.iload 8, 2) := dk_21 8 (dk_at dksX6_join_4 4 rfl rfl)
theorem dX6_join_100 : decode cX6_join 100 = .ok (.iload_n 2, 1) := dk_28 (dk_at dksX6_join_4 6 rfl rfl)
theorem dX6_join_101 : decode cX6_join 101 = .ok (.isub, 1) := dk_100 (dk_at dksX6_join_4 7 rfl rfl)
theorem dX6_join_102 : decode cX6_join 102 = .ok (.istore 8, 2) := dk_54 8 (dk_at dksX6_join_4 8 rfl rfl)
theorem dX6_join_104 : decode cX6_join 104 = .ok (.goto (-20), 3) := dk_167 255 236 (dk_at dksX6_join_4 10 rfl rfl)
theorem dX6_join_107 : decode cX6_join 107 = .ok (.iconst 0, 1) := dk_3 (dk_at dksX6_join_4 13 rfl rfl)
theorem dX6_join_108 : decode cX6_join 108 = .ok (.istore 8, 2) := dk_54 8 (dk_at dksX6_join_4 14 rfl rfl)
theorem dX6_join_110 : decode cX6_join 110 = .ok (.iconst (-1), 1) := dk_2 (dk_at dksX6_join_4 16 rfl rfl)
theorem dX6_join_111 : decode cX6_join 111 = .ok (.istore 9, 2) := dk_54 9 (dk_at dksX6_join_4 17 rfl rfl)
theorem dX6_join_113 : decode cX6_join 113 = .ok (.iconst 0, 1) := dk_3 (dk_at dksX6_join_4 19 rfl rfl)
theorem dX6_join_114 : decode cX6_join 114 = .ok (.istore 10, 2) := dk_54 10 (dk_at dksX6_join_4 20 rfl rfl)
theorem dX6_join_116 : decode cX6_join 116 = .ok (.iload 10, 2) := dk_21 10 (dk_at dksX6_join_4 22 rfl rfl)
theorem dX6_join_118 : decode cX6_join 118 = .ok (.bipush 99, 2) := dk_16 99 (dk_at dksX6_join_5 0 rfl rfl)
theorem dX6_join_120 : decode cX6_join 120 = .ok (.if_icmp .gt 82, 3) := dk_163 0 82 (dk_at dksX6_join_5 2 rfl rfl)
theorem dX6_join_123 : decode cX6_join 123 = .ok (.iload 7, 2) := dk_21 7 (dk_at dksX6_join_5 5 rfl rfl)
theorem dX6_join_125 : decode cX6_join 125 = .ok (.iload_n 3, 1) := dk_29 (dk_at dksX6_join_5 7 rfl rfl)
theorem dX6_join_126 : decode cX6_join 126 = .ok (.iload 10, 2) := dk_21 10 (dk_at dksX6_join_5 8 rfl rfl)
theorem dX6_join_128 : decode cX6_join 128 = .ok (.imul, 1) := dk_104 (dk_at dksX6_join_5 10 rfl rfl)
theorem dX6_join_129 : decode cX6_join 129 = .ok (.invokestatic 518, 3) := dk_184 2 6 (dk_at dksX6_join_5 11 rfl rfl)
theorem dX6_join_132 : decode cX6_join 132 = .ok (.iload 7, 2) := dk_21 7 (dk_at dksX6_join_5 14 rfl rfl)
theorem dX6_join_134 : decode cX6_join 134 = .ok (.iload 4, 2) := dk_21 4 (dk_at dksX6_join_5 16 rfl rfl)
theorem dX6_join_136 : decode cX6_join 136 = .ok (.iload 10, 2) := dk_21 10 (dk_at dksX6_join_5 18 rfl rfl)
theorem dX6_join_138 : decode cX6_join 138 = .ok (.imul, 1) := dk_104 (dk_at dksX6_join_5 20 rfl rfl)
theorem dX6_join_139 : decode cX6_join 139 = .ok (.invokestatic 518, 3) := dk_184 2 6 (dk_at dksX6_join_5 21 rfl rfl)
theorem dX6_join_142 : decode cX6_join 142 = .ok (.iadd, 1) := dk_96 (dk_at dksX6_join_6 0 rfl rfl)
theorem dX6_join_143 : decode cX6_join 143 = .ok (.istore 11, 2) := dk_54 11 (dk_at dksX6_join_6 1 rfl rfl)
theorem dX6_join_145 : decode cX6_join 145 = .ok (.iload_n 3, 1) := dk_29 (dk_at dksX6_join_6 3 rfl rfl)
theorem dX6_join_146 : decode cX6_join 146 = .ok (.iload 4, 2) := dk_21 4 (dk_at dksX6_join_6 4 rfl rfl)
theorem dX6_join_148 : decode cX6_join 148 = .ok (.iadd, 1) := dk_96 (dk_at dksX6_join_6 6 rfl rfl)
theorem dX6_join_149 : decode cX6_join 149 = .ok (.iload 5, 2) := dk_21 5 (dk_at dksX6_join_6 7 rfl rfl)
theorem dX6_join_151 : decode cX6_join 151 = .ok (.imul, 1) := dk_104 (dk_at dksX6_join_6 9 rfl rfl)
theorem dX6_join_152 : decode cX6_join 152 = .ok (.istore 12, 2) := dk_54 12 (dk_at dksX6_join_6 10 rfl rfl)
theorem dX6_join_154 : decode cX6_join 154 = .ok (.iload 10, 2) := dk_21 10 (dk_at dksX6_join_6 12 rfl rfl)
theorem dX6_join_156 : decode cX6_join 156 = .ok (.bipush 100, 2) := dk_16 100 (dk_at dksX6_join_6 14 rfl rfl)
theorem dX6_join_158 : decode cX6_join 158 = .ok (.iload 11, 2) := dk_21 11 (dk_at dksX6_join_6 16 rfl rfl)
theorem dX6_join_160 : decode cX6_join 160 = .ok (.imul, 1) := dk_104 (dk_at dksX6_join_6 18 rfl rfl)
theorem dX6_join_161 : decode cX6_join 161 = .ok (.iload 12, 2) := dk_21 12 (dk_at dksX6_join_6 19 rfl rfl)
theorem dX6_join_163 : decode cX6_join 163 = .ok (.iadd, 1) := dk_96 (dk_at dksX6_join_6 21 rfl rfl)
theorem dX6_join_164 : decode cX6_join 164 = .ok (.iconst 1, 1) := dk_4 (dk_at dksX6_join_6 22 rfl rfl)
theorem dX6_join_165 : decode cX6_join 165 = .ok (.isub, 1) := dk_100 (dk_at dksX6_join_6 23 rfl rfl)
theorem dX6_join_166 : decode cX6_join 166 = .ok (.iload 12, 2) := dk_21 12 (dk_at dksX6_join_7 0 rfl rfl)
theorem dX6_join_168 : decode cX6_join 168 = .ok (.idiv, 1) := dk_108 (dk_at dksX6_join_7 2 rfl rfl)
theorem dX6_join_169 : decode cX6_join 169 = .ok (.iadd, 1) := dk_96 (dk_at dksX6_join_7 3 rfl rfl)
theorem dX6_join_170 : decode cX6_join 170 = .ok (.istore 13, 2) := dk_54 13 (dk_at dksX6_join_7 4 rfl rfl)
theorem dX6_join_172 : decode cX6_join 172 = .ok (.iload 9, 2) := dk_21 9 (dk_at dksX6_join_7 6 rfl rfl)
theorem dX6_join_174 : decode cX6_join 174 = .ok (.iconst (-1), 1) := dk_2 (dk_at dksX6_join_7 8 rfl rfl)
theorem dX6_join_175 : decode cX6_join 175 = .ok (.if_icmp .eq 13, 3) := dk_159 0 13 (dk_at dksX6_join_7 9 rfl rfl)
theorem dX6_join_178 : decode cX6_join 178 = .ok (.iload 13, 2) := dk_21 13 (dk_at dksX6_join_7 12 rfl rfl)
theorem dX6_join_180 : decode cX6_join 180 = .ok (.iload 9, 2) := dk_21 9 (dk_at dksX6_join_7 14 rfl rfl)
theorem dX6_join_182 : decode cX6_join 182 = .ok (.if_icmp .lt 6, 3) := dk_161 0 6 (dk_at dksX6_join_7 16 rfl rfl)
theorem dX6_join_185 : decode cX6_join 185 = .ok (.goto 11, 3) := dk_167 0 11 (dk_at dksX6_join_7 19 rfl rfl)
theorem dX6_join_188 : decode cX6_join 188 = .ok (.iload 13, 2) := dk_21 13 (dk_at dksX6_join_7 22 rfl rfl)
theorem dX6_join_190 : decode cX6_join 190 = .ok (.istore 9, 2) := dk_54 9 (dk_at dksX6_join_8 0 rfl rfl)
theorem dX6_join_192 : decode cX6_join 192 = .ok (.iload 10, 2) := dk_21 10 (dk_at dksX6_join_8 2 rfl rfl)
theorem dX6_join_194 : decode cX6_join 194 = .ok (.istore 8, 2) := dk_54 8 (dk_at dksX6_join_8 4 rfl rfl)
theorem dX6_join_196 : decode cX6_join 196 = .ok (.iinc 10 1, 3) := dk_132 10 1 (dk_at dksX6_join_8 6 rfl rfl)
theorem dX6_join_199 : decode cX6_join 199 = .ok (.goto (-83), 3) := dk_167 255 173 (dk_at dksX6_join_8 9 rfl rfl)
theorem dX6_join_202 : decode cX6_join 202 = .ok (.iload 6, 2) := dk_21 6 (dk_at dksX6_join_8 12 rfl rfl)
theorem dX6_join_204 : decode cX6_join 204 = .ok (.ifCond .ne 8, 3) := dk_154 0 8 (dk_at dksX6_join_8 14 rfl rfl)
theorem dX6_join_207 : decode cX6_join 207 = .ok (.iload 8, 2) := dk_21 8 (dk_at dksX6_join_8 17 rfl rfl)
theorem dX6_join_209 : decode cX6_join 209 = .ok (.goto 5, 3) := dk_167 0 5 (dk_at dksX6_join_8 19 rfl rfl)
theorem dX6_join_212 : decode cX6_join 212 = .ok (.iload 9, 2) := dk_21 9 (dk_at dksX6_join_8 22 rfl rfl)
theorem dX6_join_214 : decode cX6_join 214 = .ok (.ireturn, 1) := dk_172 (dk_at dksX6_join_9 0 rfl rfl)
abbrev cX6_joinLeft : ByteArray := prog_16_method_102_code
def yX6_joinLeft : MethodName := ⟨RX6, "joinLeft", "(II)I"⟩
def dkwX6_joinLeft_0 : List UInt8 := [3, 26, 27, 100, 184, 1, 103, 172]
abbrev dktX6_joinLeft_0 : List UInt8 := dkwX6_joinLeft_0 ++ []
theorem dksX6_joinLeft_0 : cX6_joinLeft.data.toList.drop 0 = dktX6_joinLeft_0 := by decide +kernel
theorem dX6_joinLeft_0 : decode cX6_joinLeft 0 = .ok (.iconst 0, 1) := dk_3 (dk_at dksX6_joinLeft_0 0 rfl rfl)
theorem dX6_joinLeft_1 : decode cX6_joinLeft 1 = .ok (.iload_n 0, 1) := dk_26 (dk_at dksX6_joinLeft_0 1 rfl rfl)
theorem dX6_joinLeft_2 : decode cX6_joinLeft 2 = .ok (.iload_n 1, 1) := dk_27 (dk_at dksX6_joinLeft_0 2 rfl rfl)
theorem dX6_joinLeft_3 : decode cX6_joinLeft 3 = .ok (.isub, 1) := dk_100 (dk_at dksX6_joinLeft_0 3 rfl rfl)
theorem dX6_joinLeft_4 : decode cX6_joinLeft 4 = .ok (.invokestatic 359, 3) := dk_184 1 103 (dk_at dksX6_joinLeft_0 4 rfl rfl)
theorem dX6_joinLeft_7 : decode cX6_joinLeft 7 = .ok (.ireturn, 1) := dk_172 (dk_at dksX6_joinLeft_0 7 rfl rfl)
abbrev cX6_count : ByteArray := prog_16_method_103_code
def yX6_count : MethodName := ⟨RX6, "count", "(I)I"⟩
def dkwX6_count_3 : List UInt8 := [172, 2, 172]
abbrev dktX6_count_3 : List UInt8 := dkwX6_count_3 ++ []
def dkwX6_count_2 : List UInt8 := [42, 180, 1, 72, 172, 42, 180, 1, 81, 172, 42, 180, 1, 200, 172, 42, 180, 1, 203, 172, 42, 180, 0, 67]
abbrev dktX6_count_2 : List UInt8 := dkwX6_count_2 ++ dktX6_count_3
def dkwX6_count_1 : List UInt8 := [170, 0, 0, 0, 0, 0, 60, 0, 0, 0, 0, 0, 0, 0, 4, 0, 0, 0, 35, 0, 0, 0, 40, 0, 0, 0, 45, 0, 0, 0, 50, 0, 0, 0, 55]
abbrev dktX6_count_1 : List UInt8 := dkwX6_count_1 ++ dktX6_count_2
def dkwX6_count_0 : List UInt8 := [27]
abbrev dktX6_count_0 : List UInt8 := dkwX6_count_0 ++ dktX6_count_1
theorem dksX6_count_0 : cX6_count.data.toList.drop 0 = dktX6_count_0 := by decide +kernel
theorem dksX6_count_1 : cX6_count.data.toList.drop 1 = dktX6_count_1 := dk_seg dksX6_count_0 1 rfl rfl
theorem dksX6_count_2 : cX6_count.data.toList.drop 36 = dktX6_count_2 := dk_seg dksX6_count_1 35 rfl rfl
theorem dksX6_count_3 : cX6_count.data.toList.drop 60 = dktX6_count_3 := dk_seg dksX6_count_2 24 rfl rfl
theorem dX6_count_0 : decode cX6_count 0 = .ok (.iload_n 1, 1) := dk_27 (dk_at dksX6_count_0 0 rfl rfl)
theorem dX6_count_1 : decode cX6_count 1 = .ok (.tableswitch 60 0 4 #[35, 40, 45, 50, 55], 35) := by decide +kernel
theorem dX6_count_36 : decode cX6_count 36 = .ok (.aload_n 0, 1) := dk_42 (dk_at dksX6_count_2 0 rfl rfl)
theorem dX6_count_37 : decode cX6_count 37 = .ok (.getfield 328, 3) := dk_180 1 72 (dk_at dksX6_count_2 1 rfl rfl)
theorem dX6_count_40 : decode cX6_count 40 = .ok (.ireturn, 1) := dk_172 (dk_at dksX6_count_2 4 rfl rfl)
theorem dX6_count_41 : decode cX6_count 41 = .ok (.aload_n 0, 1) := dk_42 (dk_at dksX6_count_2 5 rfl rfl)
theorem dX6_count_42 : decode cX6_count 42 = .ok (.getfield 337, 3) := dk_180 1 81 (dk_at dksX6_count_2 6 rfl rfl)
theorem dX6_count_45 : decode cX6_count 45 = .ok (.ireturn, 1) := dk_172 (dk_at dksX6_count_2 9 rfl rfl)
theorem dX6_count_46 : decode cX6_count 46 = .ok (.aload_n 0, 1) := dk_42 (dk_at dksX6_count_2 10 rfl rfl)
theorem dX6_count_47 : decode cX6_count 47 = .ok (.getfield 456, 3) := dk_180 1 200 (dk_at dksX6_count_2 11 rfl rfl)
theorem dX6_count_50 : decode cX6_count 50 = .ok (.ireturn, 1) := dk_172 (dk_at dksX6_count_2 14 rfl rfl)
theorem dX6_count_51 : decode cX6_count 51 = .ok (.aload_n 0, 1) := dk_42 (dk_at dksX6_count_2 15 rfl rfl)
theorem dX6_count_52 : decode cX6_count 52 = .ok (.getfield 459, 3) := dk_180 1 203 (dk_at dksX6_count_2 16 rfl rfl)
theorem dX6_count_55 : decode cX6_count 55 = .ok (.ireturn, 1) := dk_172 (dk_at dksX6_count_2 19 rfl rfl)
theorem dX6_count_56 : decode cX6_count 56 = .ok (.aload_n 0, 1) := dk_42 (dk_at dksX6_count_2 20 rfl rfl)
theorem dX6_count_57 : decode cX6_count 57 = .ok (.getfield 67, 3) := dk_180 0 67 (dk_at dksX6_count_2 21 rfl rfl)
theorem dX6_count_60 : decode cX6_count 60 = .ok (.ireturn, 1) := dk_172 (dk_at dksX6_count_3 0 rfl rfl)
theorem dX6_count_61 : decode cX6_count 61 = .ok (.iconst (-1), 1) := dk_2 (dk_at dksX6_count_3 1 rfl rfl)
theorem dX6_count_62 : decode cX6_count 62 = .ok (.ireturn, 1) := dk_172 (dk_at dksX6_count_3 2 rfl rfl)
theorem q101 : (Jvm.Cond.initialized "TideKeepModel") ∈ lw_all := lw_g (lw_at lw_m1 14 rfl) rfl
theorem q871 : (Jvm.Cond.selects "TideKeepModel" ({ cls := "java/lang/Object", name := "getClass", desc := "()Ljava/lang/Class;" } : Jvm.MethodName) ({ cls := "java/lang/Object", name := "getClass", desc := "()Ljava/lang/Class;" } : Jvm.MethodName)) ∈ lw_all := lw_g (lw_at lw_m4 64 rfl) rfl
theorem q1358 : (Jvm.Cond.instantiable "TideKeepModel" (62 : Nat)) ∈ lw_all := lw_g (lw_at lw_m6 71 rfl) rfl
theorem q1360 : (Jvm.Cond.instanceMethod ({ cls := "TideKeepModel", name := "<init>", desc := "()V" } : Jvm.MethodName)) ∈ lw_all := lw_g (lw_at lw_m6 73 rfl) rfl
theorem q1361 : (Jvm.Cond.code ({ cls := "TideKeepModel", name := "<init>", desc := "()V" } : Jvm.MethodName) prog_16_method_32_code (1 : Nat) (Option.none : Option Jvm.ClassFile.FieldType)) ∈ lw_all := lw_g (lw_at lw_m6 74 rfl) rfl
theorem q1362 : (Jvm.Cond.methodLink "TideKeepModel" (240 : Nat) ({ cls := "java/lang/Object", name := "<init>", desc := "()V" } : Jvm.MethodName)) ∈ lw_all := lw_g (lw_at lw_m6 75 rfl) rfl
theorem q1363 : (Jvm.Cond.methodLink "TideKeepModel" (308 : Nat) ({ cls := "TideKeepModel", name := "beginNow", desc := "()V" } : Jvm.MethodName)) ∈ lw_all := lw_g (lw_at lw_m6 76 rfl) rfl
theorem q1364 : (Jvm.Cond.privateMethod ({ cls := "TideKeepModel", name := "beginNow", desc := "()V" } : Jvm.MethodName)) ∈ lw_tbl := lw_at lw_m6 77 rfl
theorem q1365 : (Jvm.Cond.instanceMethod ({ cls := "TideKeepModel", name := "beginNow", desc := "()V" } : Jvm.MethodName)) ∈ lw_all := lw_g (lw_at lw_m6 78 rfl) rfl
theorem q1366 : (Jvm.Cond.code ({ cls := "TideKeepModel", name := "beginNow", desc := "()V" } : Jvm.MethodName) prog_16_method_33_code (3 : Nat) (Option.none : Option Jvm.ClassFile.FieldType)) ∈ lw_all := lw_g (lw_at lw_m6 79 rfl) rfl
theorem q1367 : (Jvm.Cond.methodLink "TideKeepModel" (314 : Nat) ({ cls := "TideKeepModel", name := "putFlag", desc := "([II)V" } : Jvm.MethodName)) ∈ lw_all := lw_g (lw_at lw_m6 80 rfl) rfl
theorem q1368 : (Jvm.Cond.static ({ cls := "TideKeepModel", name := "putFlag", desc := "([II)V" } : Jvm.MethodName)) ∈ lw_all := lw_g (lw_at lw_m6 81 rfl) rfl
theorem q1369 : (Jvm.Cond.code ({ cls := "TideKeepModel", name := "putFlag", desc := "([II)V" } : Jvm.MethodName) prog_16_method_34_code (3 : Nat) (Option.none : Option Jvm.ClassFile.FieldType)) ∈ lw_all := lw_g (lw_at lw_m6 82 rfl) rfl
theorem q1370 : (Jvm.Cond.fieldLink "TideKeepModel" (16 : Nat) "TideKeepModel" "tape" "[B") ∈ lw_all := lw_g (lw_at lw_m6 83 rfl) rfl
theorem q1371 : (Jvm.Cond.fieldLink "TideKeepModel" (67 : Nat) "TideKeepModel" "taped" "I") ∈ lw_all := lw_g (lw_at lw_m6 84 rfl) rfl
theorem q1372 : (Jvm.Cond.fieldLink "TideKeepModel" (13 : Nat) "TideKeepModel" "length" "I") ∈ lw_all := lw_g (lw_at lw_m6 85 rfl) rfl
theorem q1373 : (Jvm.Cond.fieldLink "TideKeepModel" (7 : Nat) "TideKeepModel" "from" "I") ∈ lw_all := lw_g (lw_at lw_m6 86 rfl) rfl
theorem q1374 : (Jvm.Cond.fieldLink "TideKeepModel" (20 : Nat) "TideKeepModel" "behind" "I") ∈ lw_all := lw_g (lw_at lw_m6 87 rfl) rfl
theorem q1375 : (Jvm.Cond.fieldLink "TideKeepModel" (27 : Nat) "TideKeepModel" "hand" "I") ∈ lw_all := lw_g (lw_at lw_m6 88 rfl) rfl
theorem q1376 : (Jvm.Cond.fieldLink "TideKeepModel" (37 : Nat) "TideKeepModel" "value" "I") ∈ lw_all := lw_g (lw_at lw_m6 89 rfl) rfl
theorem q1377 : (Jvm.Cond.fieldLink "TideKeepModel" (56 : Nat) "TideKeepModel" "got" "I") ∈ lw_all := lw_g (lw_at lw_m6 90 rfl) rfl
theorem q1378 : (Jvm.Cond.fieldLink "TideKeepModel" (1 : Nat) "TideKeepModel" "fault" "I") ∈ lw_all := lw_g (lw_at lw_m6 91 rfl) rfl
theorem q1379 : (Jvm.Cond.fieldLink "TideKeepModel" (10 : Nat) "TideKeepModel" "faultAt" "I") ∈ lw_all := lw_g (lw_at lw_m6 92 rfl) rfl
theorem q1380 : (Jvm.Cond.fieldLink "TideKeepModel" (201 : Nat) "TideKeepModel" "columns" "I") ∈ lw_all := lw_g (lw_at lw_m6 93 rfl) rfl
theorem q1381 : (Jvm.Cond.fieldLink "TideKeepModel" (204 : Nat) "TideKeepModel" "rows" "I") ∈ lw_all := lw_g (lw_at lw_m6 94 rfl) rfl
theorem q1382 : (Jvm.Cond.fieldLink "TideKeepModel" (311 : Nat) "TideKeepModel" "flags" "I") ∈ lw_all := lw_g (lw_at lw_m6 95 rfl) rfl
theorem q1383 : (Jvm.Cond.fieldLink "TideKeepModel" (328 : Nat) "TideKeepModel" "beachClauses" "I") ∈ lw_all := lw_g (lw_at lw_m6 96 rfl) rfl
theorem q1384 : (Jvm.Cond.fieldLink "TideKeepModel" (73 : Nat) "TideKeepModel" "readColumns" "I") ∈ lw_all := lw_g (lw_at lw_m6 97 rfl) rfl
theorem q1385 : (Jvm.Cond.fieldLink "TideKeepModel" (76 : Nat) "TideKeepModel" "readRows" "I") ∈ lw_all := lw_g (lw_at lw_m6 98 rfl) rfl
theorem q1386 : (Jvm.Cond.fieldLink "TideKeepModel" (95 : Nat) "TideKeepModel" "readFlags" "I") ∈ lw_all := lw_g (lw_at lw_m6 99 rfl) rfl
theorem q1387 : (Jvm.Cond.fieldLink "TideKeepModel" (131 : Nat) "TideKeepModel" "read" "I") ∈ lw_all := lw_g (lw_at lw_m6 100 rfl) rfl
theorem q1388 : (Jvm.Cond.fieldLink "TideKeepModel" (101 : Nat) "TideKeepModel" "toldWords" "I") ∈ lw_all := lw_g (lw_at lw_m6 101 rfl) rfl
theorem q1389 : (Jvm.Cond.fieldLink "TideKeepModel" (245 : Nat) "TideKeepModel" "law" "[I") ∈ lw_all := lw_g (lw_at lw_m6 102 rfl) rfl
theorem q1390 : (Jvm.Cond.fieldLink "TideKeepModel" (128 : Nat) "TideKeepModel" "readLaw" "[I") ∈ lw_all := lw_g (lw_at lw_m6 103 rfl) rfl
theorem q1391 : (Jvm.Cond.fieldLink "TideKeepModel" (248 : Nat) "TideKeepModel" "heap" "[I") ∈ lw_all := lw_g (lw_at lw_m6 104 rfl) rfl
theorem q1392 : (Jvm.Cond.fieldLink "TideKeepModel" (83 : Nat) "TideKeepModel" "readHeap" "[I") ∈ lw_all := lw_g (lw_at lw_m6 105 rfl) rfl
theorem q1393 : (Jvm.Cond.fieldLink "TideKeepModel" (250 : Nat) "TideKeepModel" "flagAt" "[I") ∈ lw_all := lw_g (lw_at lw_m6 106 rfl) rfl
theorem q1394 : (Jvm.Cond.fieldLink "TideKeepModel" (98 : Nat) "TideKeepModel" "readFlagAt" "[I") ∈ lw_all := lw_g (lw_at lw_m6 107 rfl) rfl
theorem q1395 : (Jvm.Cond.fieldLink "TideKeepModel" (253 : Nat) "TideKeepModel" "isStone" "[Z") ∈ lw_all := lw_g (lw_at lw_m6 108 rfl) rfl
theorem q1396 : (Jvm.Cond.fieldLink "TideKeepModel" (91 : Nat) "TideKeepModel" "readStone" "[Z") ∈ lw_all := lw_g (lw_at lw_m6 109 rfl) rfl
theorem q1397 : (Jvm.Cond.fieldLink "TideKeepModel" (87 : Nat) "TideKeepModel" "readAny" "Z") ∈ lw_all := lw_g (lw_at lw_m6 110 rfl) rfl
theorem q1398 : (Jvm.Cond.fieldLink "TideKeepModel" (334 : Nat) "TideKeepModel" "waves" "I") ∈ lw_all := lw_g (lw_at lw_m6 111 rfl) rfl
theorem q1399 : (Jvm.Cond.fieldLink "TideKeepModel" (337 : Nat) "TideKeepModel" "seaClauses" "I") ∈ lw_all := lw_g (lw_at lw_m6 112 rfl) rfl
theorem q1400 : (Jvm.Cond.fieldLink "TideKeepModel" (162 : Nat) "TideKeepModel" "readWaves" "I") ∈ lw_all := lw_g (lw_at lw_m6 113 rfl) rfl
theorem q1401 : (Jvm.Cond.fieldLink "TideKeepModel" (256 : Nat) "TideKeepModel" "wave" "[I") ∈ lw_all := lw_g (lw_at lw_m6 114 rfl) rfl
theorem q1402 : (Jvm.Cond.fieldLink "TideKeepModel" (165 : Nat) "TideKeepModel" "readWave" "[I") ∈ lw_all := lw_g (lw_at lw_m6 115 rfl) rfl
theorem q1403 : (Jvm.Cond.fieldLink "TideKeepModel" (258 : Nat) "TideKeepModel" "tide" "[I") ∈ lw_all := lw_g (lw_at lw_m6 116 rfl) rfl
theorem q1404 : (Jvm.Cond.fieldLink "TideKeepModel" (168 : Nat) "TideKeepModel" "readTide" "[I") ∈ lw_all := lw_g (lw_at lw_m6 117 rfl) rfl
theorem q1405 : (Jvm.Cond.fieldLink "TideKeepModel" (260 : Nat) "TideKeepModel" "reach" "[I") ∈ lw_all := lw_g (lw_at lw_m6 118 rfl) rfl
theorem q1406 : (Jvm.Cond.fieldLink "TideKeepModel" (262 : Nat) "TideKeepModel" "level" "[I") ∈ lw_all := lw_g (lw_at lw_m6 119 rfl) rfl
theorem q1407 : (Jvm.Cond.fieldLink "TideKeepModel" (181 : Nat) "TideKeepModel" "readReach" "[I") ∈ lw_all := lw_g (lw_at lw_m6 120 rfl) rfl
theorem q1408 : (Jvm.Cond.fieldLink "TideKeepModel" (188 : Nat) "TideKeepModel" "readLevel" "[I") ∈ lw_all := lw_g (lw_at lw_m6 121 rfl) rfl
theorem q1409 : (Jvm.Cond.fieldLink "TideKeepModel" (264 : Nat) "TideKeepModel" "cut" "I") ∈ lw_all := lw_g (lw_at lw_m6 122 rfl) rfl
theorem q1410 : (Jvm.Cond.fieldLink "TideKeepModel" (191 : Nat) "TideKeepModel" "readCut" "I") ∈ lw_all := lw_g (lw_at lw_m6 123 rfl) rfl
theorem q1411 : (Jvm.Cond.fieldLink "TideKeepModel" (225 : Nat) "TideKeepModel" "plans" "I") ∈ lw_all := lw_g (lw_at lw_m6 124 rfl) rfl
theorem q1412 : (Jvm.Cond.fieldLink "TideKeepModel" (222 : Nat) "TideKeepModel" "readHands" "I") ∈ lw_all := lw_g (lw_at lw_m6 125 rfl) rfl
theorem q1413 : (Jvm.Cond.fieldLink "TideKeepModel" (266 : Nat) "TideKeepModel" "hands" "[I") ∈ lw_all := lw_g (lw_at lw_m6 126 rfl) rfl
theorem q1414 : (Jvm.Cond.fieldLink "TideKeepModel" (228 : Nat) "TideKeepModel" "acts" "[I") ∈ lw_all := lw_g (lw_at lw_m6 127 rfl) rfl
theorem q1415 : (Jvm.Cond.fieldLink "TideKeepModel" (207 : Nat) "TideKeepModel" "act" "[I") ∈ lw_all := lw_g (lw_at lw_m6 128 rfl) rfl
theorem q1416 : (Jvm.Cond.fieldLink "TideKeepModel" (269 : Nat) "TideKeepModel" "now" "[I") ∈ lw_all := lw_g (lw_at lw_m6 129 rfl) rfl
theorem q1417 : (Jvm.Cond.fieldLink "TideKeepModel" (272 : Nat) "TideKeepModel" "trial" "[I") ∈ lw_all := lw_g (lw_at lw_m6 130 rfl) rfl
theorem q1418 : (Jvm.Cond.fieldLink "TideKeepModel" (275 : Nat) "TideKeepModel" "kept" "[I") ∈ lw_all := lw_g (lw_at lw_m6 131 rfl) rfl
theorem q1419 : (Jvm.Cond.fieldLink "TideKeepModel" (278 : Nat) "TideKeepModel" "isKept" "[Z") ∈ lw_all := lw_g (lw_at lw_m6 132 rfl) rfl
theorem q1420 : (Jvm.Cond.fieldLink "TideKeepModel" (281 : Nat) "TideKeepModel" "heaped" "[I") ∈ lw_all := lw_g (lw_at lw_m6 133 rfl) rfl
theorem q1421 : (Jvm.Cond.fieldLink "TideKeepModel" (456 : Nat) "TideKeepModel" "tried" "I") ∈ lw_all := lw_g (lw_at lw_m6 134 rfl) rfl
theorem q1422 : (Jvm.Cond.fieldLink "TideKeepModel" (459 : Nat) "TideKeepModel" "rights" "I") ∈ lw_all := lw_g (lw_at lw_m6 135 rfl) rfl
theorem q1423 : (Jvm.Cond.fieldLink "TideKeepModel" (444 : Nat) "TideKeepModel" "telling" "I") ∈ lw_all := lw_g (lw_at lw_m6 136 rfl) rfl
theorem q1424 : (Jvm.Cond.fieldLink "TideKeepModel" (284 : Nat) "TideKeepModel" "triedWet" "[I") ∈ lw_all := lw_g (lw_at lw_m6 137 rfl) rfl
theorem q1425 : (Jvm.Cond.fieldLink "TideKeepModel" (287 : Nat) "TideKeepModel" "triedSteep" "[I") ∈ lw_all := lw_g (lw_at lw_m6 138 rfl) rfl
theorem q1426 : (Jvm.Cond.fieldLink "TideKeepModel" (290 : Nat) "TideKeepModel" "triedStood" "[I") ∈ lw_all := lw_g (lw_at lw_m6 139 rfl) rfl
theorem q1427 : (Jvm.Cond.fieldLink "TideKeepModel" (293 : Nat) "TideKeepModel" "triedAt" "[I") ∈ lw_all := lw_g (lw_at lw_m6 140 rfl) rfl
theorem q1428 : (Jvm.Cond.fieldLink "TideKeepModel" (296 : Nat) "TideKeepModel" "rightOf" "[I") ∈ lw_all := lw_g (lw_at lw_m6 141 rfl) rfl
theorem q1429 : (Jvm.Cond.fieldLink "TideKeepModel" (299 : Nat) "TideKeepModel" "rightStood" "[I") ∈ lw_all := lw_g (lw_at lw_m6 142 rfl) rfl
theorem q1430 : (Jvm.Cond.fieldLink "TideKeepModel" (302 : Nat) "TideKeepModel" "rightAt" "[I") ∈ lw_all := lw_g (lw_at lw_m6 143 rfl) rfl
theorem q1431 : (Jvm.Cond.fieldLink "TideKeepModel" (305 : Nat) "TideKeepModel" "standing" "[I") ∈ lw_all := lw_g (lw_at lw_m6 144 rfl) rfl
theorem q1432 : (Jvm.Cond.laysFinal "TideKeepModel" "TideKeepModel" "tape" "[B") ∈ lw_all := lw_g (lw_at lw_m6 145 rfl) rfl
theorem q1433 : (Jvm.Cond.soleField "TideKeepModel" "tape") ∈ lw_all := lw_g (lw_at lw_m6 146 rfl) rfl
theorem q1434 : (Jvm.Cond.lays "TideKeepModel" "TideKeepModel" "taped" "I") ∈ lw_all := lw_g (lw_at lw_m6 147 rfl) rfl
theorem q1435 : (Jvm.Cond.soleField "TideKeepModel" "taped") ∈ lw_all := lw_g (lw_at lw_m6 148 rfl) rfl
theorem q1436 : (Jvm.Cond.lays "TideKeepModel" "TideKeepModel" "length" "I") ∈ lw_all := lw_g (lw_at lw_m6 149 rfl) rfl
theorem q1437 : (Jvm.Cond.soleField "TideKeepModel" "length") ∈ lw_all := lw_g (lw_at lw_m6 150 rfl) rfl
theorem q1438 : (Jvm.Cond.lays "TideKeepModel" "TideKeepModel" "from" "I") ∈ lw_all := lw_g (lw_at lw_m6 151 rfl) rfl
theorem q1439 : (Jvm.Cond.soleField "TideKeepModel" "from") ∈ lw_all := lw_g (lw_at lw_m6 152 rfl) rfl
theorem q1440 : (Jvm.Cond.lays "TideKeepModel" "TideKeepModel" "behind" "I") ∈ lw_all := lw_g (lw_at lw_m6 153 rfl) rfl
theorem q1441 : (Jvm.Cond.soleField "TideKeepModel" "behind") ∈ lw_all := lw_g (lw_at lw_m6 154 rfl) rfl
theorem q1442 : (Jvm.Cond.lays "TideKeepModel" "TideKeepModel" "hand" "I") ∈ lw_all := lw_g (lw_at lw_m6 155 rfl) rfl
theorem q1443 : (Jvm.Cond.soleField "TideKeepModel" "hand") ∈ lw_all := lw_g (lw_at lw_m6 156 rfl) rfl
theorem q1444 : (Jvm.Cond.lays "TideKeepModel" "TideKeepModel" "value" "I") ∈ lw_all := lw_g (lw_at lw_m6 157 rfl) rfl
theorem q1445 : (Jvm.Cond.soleField "TideKeepModel" "value") ∈ lw_all := lw_g (lw_at lw_m6 158 rfl) rfl
theorem q1446 : (Jvm.Cond.lays "TideKeepModel" "TideKeepModel" "got" "I") ∈ lw_all := lw_g (lw_at lw_m6 159 rfl) rfl
theorem q1447 : (Jvm.Cond.soleField "TideKeepModel" "got") ∈ lw_all := lw_g (lw_at lw_m6 160 rfl) rfl
theorem q1448 : (Jvm.Cond.lays "TideKeepModel" "TideKeepModel" "fault" "I") ∈ lw_all := lw_g (lw_at lw_m6 161 rfl) rfl
theorem q1449 : (Jvm.Cond.soleField "TideKeepModel" "fault") ∈ lw_all := lw_g (lw_at lw_m6 162 rfl) rfl
theorem q1450 : (Jvm.Cond.lays "TideKeepModel" "TideKeepModel" "faultAt" "I") ∈ lw_all := lw_g (lw_at lw_m6 163 rfl) rfl
theorem q1451 : (Jvm.Cond.soleField "TideKeepModel" "faultAt") ∈ lw_all := lw_g (lw_at lw_m6 164 rfl) rfl
theorem q1452 : (Jvm.Cond.lays "TideKeepModel" "TideKeepModel" "columns" "I") ∈ lw_all := lw_g (lw_at lw_m6 165 rfl) rfl
theorem q1453 : (Jvm.Cond.soleField "TideKeepModel" "columns") ∈ lw_all := lw_g (lw_at lw_m6 166 rfl) rfl
theorem q1454 : (Jvm.Cond.lays "TideKeepModel" "TideKeepModel" "rows" "I") ∈ lw_all := lw_g (lw_at lw_m6 167 rfl) rfl
theorem q1455 : (Jvm.Cond.soleField "TideKeepModel" "rows") ∈ lw_all := lw_g (lw_at lw_m6 168 rfl) rfl
theorem q1456 : (Jvm.Cond.lays "TideKeepModel" "TideKeepModel" "flags" "I") ∈ lw_all := lw_g (lw_at lw_m6 169 rfl) rfl
theorem q1457 : (Jvm.Cond.soleField "TideKeepModel" "flags") ∈ lw_all := lw_g (lw_at lw_m6 170 rfl) rfl
theorem q1458 : (Jvm.Cond.lays "TideKeepModel" "TideKeepModel" "beachClauses" "I") ∈ lw_all := lw_g (lw_at lw_m6 171 rfl) rfl
theorem q1459 : (Jvm.Cond.soleField "TideKeepModel" "beachClauses") ∈ lw_all := lw_g (lw_at lw_m6 172 rfl) rfl
theorem q1460 : (Jvm.Cond.lays "TideKeepModel" "TideKeepModel" "readColumns" "I") ∈ lw_all := lw_g (lw_at lw_m6 173 rfl) rfl
theorem q1461 : (Jvm.Cond.soleField "TideKeepModel" "readColumns") ∈ lw_all := lw_g (lw_at lw_m6 174 rfl) rfl
theorem q1462 : (Jvm.Cond.lays "TideKeepModel" "TideKeepModel" "readRows" "I") ∈ lw_all := lw_g (lw_at lw_m6 175 rfl) rfl
theorem q1463 : (Jvm.Cond.soleField "TideKeepModel" "readRows") ∈ lw_all := lw_g (lw_at lw_m6 176 rfl) rfl
theorem q1464 : (Jvm.Cond.lays "TideKeepModel" "TideKeepModel" "readFlags" "I") ∈ lw_all := lw_g (lw_at lw_m6 177 rfl) rfl
theorem q1465 : (Jvm.Cond.soleField "TideKeepModel" "readFlags") ∈ lw_all := lw_g (lw_at lw_m6 178 rfl) rfl
theorem q1466 : (Jvm.Cond.lays "TideKeepModel" "TideKeepModel" "read" "I") ∈ lw_all := lw_g (lw_at lw_m6 179 rfl) rfl
theorem q1467 : (Jvm.Cond.soleField "TideKeepModel" "read") ∈ lw_all := lw_g (lw_at lw_m6 180 rfl) rfl
theorem q1468 : (Jvm.Cond.lays "TideKeepModel" "TideKeepModel" "toldWords" "I") ∈ lw_all := lw_g (lw_at lw_m6 181 rfl) rfl
theorem q1469 : (Jvm.Cond.soleField "TideKeepModel" "toldWords") ∈ lw_all := lw_g (lw_at lw_m6 182 rfl) rfl
theorem q1470 : (Jvm.Cond.laysFinal "TideKeepModel" "TideKeepModel" "law" "[I") ∈ lw_all := lw_g (lw_at lw_m6 183 rfl) rfl
theorem q1471 : (Jvm.Cond.soleField "TideKeepModel" "law") ∈ lw_all := lw_g (lw_at lw_m6 184 rfl) rfl
theorem q1472 : (Jvm.Cond.laysFinal "TideKeepModel" "TideKeepModel" "readLaw" "[I") ∈ lw_all := lw_g (lw_at lw_m6 185 rfl) rfl
theorem q1473 : (Jvm.Cond.soleField "TideKeepModel" "readLaw") ∈ lw_all := lw_g (lw_at lw_m6 186 rfl) rfl
theorem q1474 : (Jvm.Cond.laysFinal "TideKeepModel" "TideKeepModel" "heap" "[I") ∈ lw_all := lw_g (lw_at lw_m6 187 rfl) rfl
theorem q1475 : (Jvm.Cond.soleField "TideKeepModel" "heap") ∈ lw_all := lw_g (lw_at lw_m6 188 rfl) rfl
theorem q1476 : (Jvm.Cond.laysFinal "TideKeepModel" "TideKeepModel" "readHeap" "[I") ∈ lw_all := lw_g (lw_at lw_m6 189 rfl) rfl
theorem q1477 : (Jvm.Cond.soleField "TideKeepModel" "readHeap") ∈ lw_all := lw_g (lw_at lw_m6 190 rfl) rfl
theorem q1478 : (Jvm.Cond.laysFinal "TideKeepModel" "TideKeepModel" "flagAt" "[I") ∈ lw_all := lw_g (lw_at lw_m6 191 rfl) rfl
theorem q1479 : (Jvm.Cond.soleField "TideKeepModel" "flagAt") ∈ lw_all := lw_g (lw_at lw_m6 192 rfl) rfl
theorem q1480 : (Jvm.Cond.laysFinal "TideKeepModel" "TideKeepModel" "readFlagAt" "[I") ∈ lw_all := lw_g (lw_at lw_m6 193 rfl) rfl
theorem q1481 : (Jvm.Cond.soleField "TideKeepModel" "readFlagAt") ∈ lw_all := lw_g (lw_at lw_m6 194 rfl) rfl
theorem q1482 : (Jvm.Cond.laysFinal "TideKeepModel" "TideKeepModel" "isStone" "[Z") ∈ lw_all := lw_g (lw_at lw_m6 195 rfl) rfl
theorem q1483 : (Jvm.Cond.soleField "TideKeepModel" "isStone") ∈ lw_all := lw_g (lw_at lw_m6 196 rfl) rfl
theorem q1484 : (Jvm.Cond.laysFinal "TideKeepModel" "TideKeepModel" "readStone" "[Z") ∈ lw_all := lw_g (lw_at lw_m6 197 rfl) rfl
theorem q1485 : (Jvm.Cond.soleField "TideKeepModel" "readStone") ∈ lw_all := lw_g (lw_at lw_m6 198 rfl) rfl
theorem q1486 : (Jvm.Cond.lays "TideKeepModel" "TideKeepModel" "readAny" "Z") ∈ lw_all := lw_g (lw_at lw_m6 199 rfl) rfl
theorem q1487 : (Jvm.Cond.soleField "TideKeepModel" "readAny") ∈ lw_all := lw_g (lw_at lw_m6 200 rfl) rfl
theorem q1488 : (Jvm.Cond.lays "TideKeepModel" "TideKeepModel" "waves" "I") ∈ lw_all := lw_g (lw_at lw_m6 201 rfl) rfl
theorem q1489 : (Jvm.Cond.soleField "TideKeepModel" "waves") ∈ lw_all := lw_g (lw_at lw_m6 202 rfl) rfl
theorem q1490 : (Jvm.Cond.lays "TideKeepModel" "TideKeepModel" "seaClauses" "I") ∈ lw_all := lw_g (lw_at lw_m6 203 rfl) rfl
theorem q1491 : (Jvm.Cond.soleField "TideKeepModel" "seaClauses") ∈ lw_all := lw_g (lw_at lw_m6 204 rfl) rfl
theorem q1492 : (Jvm.Cond.lays "TideKeepModel" "TideKeepModel" "readWaves" "I") ∈ lw_all := lw_g (lw_at lw_m6 205 rfl) rfl
theorem q1493 : (Jvm.Cond.soleField "TideKeepModel" "readWaves") ∈ lw_all := lw_g (lw_at lw_m6 206 rfl) rfl
theorem q1494 : (Jvm.Cond.laysFinal "TideKeepModel" "TideKeepModel" "wave" "[I") ∈ lw_all := lw_g (lw_at lw_m6 207 rfl) rfl
theorem q1495 : (Jvm.Cond.soleField "TideKeepModel" "wave") ∈ lw_all := lw_g (lw_at lw_m6 208 rfl) rfl
theorem q1496 : (Jvm.Cond.laysFinal "TideKeepModel" "TideKeepModel" "readWave" "[I") ∈ lw_all := lw_g (lw_at lw_m6 209 rfl) rfl
theorem q1497 : (Jvm.Cond.soleField "TideKeepModel" "readWave") ∈ lw_all := lw_g (lw_at lw_m6 210 rfl) rfl
theorem q1498 : (Jvm.Cond.laysFinal "TideKeepModel" "TideKeepModel" "tide" "[I") ∈ lw_all := lw_g (lw_at lw_m6 211 rfl) rfl
theorem q1499 : (Jvm.Cond.soleField "TideKeepModel" "tide") ∈ lw_all := lw_g (lw_at lw_m6 212 rfl) rfl
theorem q1500 : (Jvm.Cond.laysFinal "TideKeepModel" "TideKeepModel" "readTide" "[I") ∈ lw_all := lw_g (lw_at lw_m6 213 rfl) rfl
theorem q1501 : (Jvm.Cond.soleField "TideKeepModel" "readTide") ∈ lw_all := lw_g (lw_at lw_m6 214 rfl) rfl
theorem q1502 : (Jvm.Cond.laysFinal "TideKeepModel" "TideKeepModel" "reach" "[I") ∈ lw_all := lw_g (lw_at lw_m6 215 rfl) rfl
theorem q1503 : (Jvm.Cond.soleField "TideKeepModel" "reach") ∈ lw_all := lw_g (lw_at lw_m6 216 rfl) rfl
theorem q1504 : (Jvm.Cond.laysFinal "TideKeepModel" "TideKeepModel" "level" "[I") ∈ lw_all := lw_g (lw_at lw_m6 217 rfl) rfl
theorem q1505 : (Jvm.Cond.soleField "TideKeepModel" "level") ∈ lw_all := lw_g (lw_at lw_m6 218 rfl) rfl
theorem q1506 : (Jvm.Cond.laysFinal "TideKeepModel" "TideKeepModel" "readReach" "[I") ∈ lw_all := lw_g (lw_at lw_m6 219 rfl) rfl
theorem q1507 : (Jvm.Cond.soleField "TideKeepModel" "readReach") ∈ lw_all := lw_g (lw_at lw_m6 220 rfl) rfl
theorem q1508 : (Jvm.Cond.laysFinal "TideKeepModel" "TideKeepModel" "readLevel" "[I") ∈ lw_all := lw_g (lw_at lw_m6 221 rfl) rfl
theorem q1509 : (Jvm.Cond.soleField "TideKeepModel" "readLevel") ∈ lw_all := lw_g (lw_at lw_m6 222 rfl) rfl
theorem q1510 : (Jvm.Cond.lays "TideKeepModel" "TideKeepModel" "cut" "I") ∈ lw_all := lw_g (lw_at lw_m6 223 rfl) rfl
theorem q1511 : (Jvm.Cond.soleField "TideKeepModel" "cut") ∈ lw_all := lw_g (lw_at lw_m6 224 rfl) rfl
theorem q1512 : (Jvm.Cond.lays "TideKeepModel" "TideKeepModel" "readCut" "I") ∈ lw_all := lw_g (lw_at lw_m6 225 rfl) rfl
theorem q1513 : (Jvm.Cond.soleField "TideKeepModel" "readCut") ∈ lw_all := lw_g (lw_at lw_m6 226 rfl) rfl
theorem q1514 : (Jvm.Cond.lays "TideKeepModel" "TideKeepModel" "plans" "I") ∈ lw_all := lw_g (lw_at lw_m6 227 rfl) rfl
theorem q1515 : (Jvm.Cond.soleField "TideKeepModel" "plans") ∈ lw_all := lw_g (lw_at lw_m6 228 rfl) rfl
theorem q1516 : (Jvm.Cond.lays "TideKeepModel" "TideKeepModel" "readHands" "I") ∈ lw_all := lw_g (lw_at lw_m6 229 rfl) rfl
theorem q1517 : (Jvm.Cond.soleField "TideKeepModel" "readHands") ∈ lw_all := lw_g (lw_at lw_m6 230 rfl) rfl
theorem q1518 : (Jvm.Cond.laysFinal "TideKeepModel" "TideKeepModel" "hands" "[I") ∈ lw_all := lw_g (lw_at lw_m6 231 rfl) rfl
theorem q1519 : (Jvm.Cond.soleField "TideKeepModel" "hands") ∈ lw_all := lw_g (lw_at lw_m6 232 rfl) rfl
theorem q1520 : (Jvm.Cond.laysFinal "TideKeepModel" "TideKeepModel" "acts" "[I") ∈ lw_all := lw_g (lw_at lw_m6 233 rfl) rfl
theorem q1521 : (Jvm.Cond.soleField "TideKeepModel" "acts") ∈ lw_all := lw_g (lw_at lw_m6 234 rfl) rfl
theorem q1522 : (Jvm.Cond.laysFinal "TideKeepModel" "TideKeepModel" "act" "[I") ∈ lw_all := lw_g (lw_at lw_m6 235 rfl) rfl
theorem q1523 : (Jvm.Cond.soleField "TideKeepModel" "act") ∈ lw_all := lw_g (lw_at lw_m6 236 rfl) rfl
theorem q1524 : (Jvm.Cond.laysFinal "TideKeepModel" "TideKeepModel" "now" "[I") ∈ lw_all := lw_g (lw_at lw_m6 237 rfl) rfl
theorem q1525 : (Jvm.Cond.soleField "TideKeepModel" "now") ∈ lw_all := lw_g (lw_at lw_m6 238 rfl) rfl
theorem q1526 : (Jvm.Cond.laysFinal "TideKeepModel" "TideKeepModel" "trial" "[I") ∈ lw_all := lw_g (lw_at lw_m6 239 rfl) rfl
theorem q1527 : (Jvm.Cond.soleField "TideKeepModel" "trial") ∈ lw_all := lw_g (lw_at lw_m7 0 rfl) rfl
theorem q1528 : (Jvm.Cond.laysFinal "TideKeepModel" "TideKeepModel" "kept" "[I") ∈ lw_all := lw_g (lw_at lw_m7 1 rfl) rfl
theorem q1529 : (Jvm.Cond.soleField "TideKeepModel" "kept") ∈ lw_all := lw_g (lw_at lw_m7 2 rfl) rfl
theorem q1530 : (Jvm.Cond.laysFinal "TideKeepModel" "TideKeepModel" "isKept" "[Z") ∈ lw_all := lw_g (lw_at lw_m7 3 rfl) rfl
theorem q1531 : (Jvm.Cond.soleField "TideKeepModel" "isKept") ∈ lw_all := lw_g (lw_at lw_m7 4 rfl) rfl
theorem q1532 : (Jvm.Cond.laysFinal "TideKeepModel" "TideKeepModel" "heaped" "[I") ∈ lw_all := lw_g (lw_at lw_m7 5 rfl) rfl
theorem q1533 : (Jvm.Cond.soleField "TideKeepModel" "heaped") ∈ lw_all := lw_g (lw_at lw_m7 6 rfl) rfl
theorem q1534 : (Jvm.Cond.lays "TideKeepModel" "TideKeepModel" "tried" "I") ∈ lw_all := lw_g (lw_at lw_m7 7 rfl) rfl
theorem q1535 : (Jvm.Cond.soleField "TideKeepModel" "tried") ∈ lw_all := lw_g (lw_at lw_m7 8 rfl) rfl
theorem q1536 : (Jvm.Cond.lays "TideKeepModel" "TideKeepModel" "rights" "I") ∈ lw_all := lw_g (lw_at lw_m7 9 rfl) rfl
theorem q1537 : (Jvm.Cond.soleField "TideKeepModel" "rights") ∈ lw_all := lw_g (lw_at lw_m7 10 rfl) rfl
theorem q1538 : (Jvm.Cond.lays "TideKeepModel" "TideKeepModel" "telling" "I") ∈ lw_all := lw_g (lw_at lw_m7 11 rfl) rfl
theorem q1539 : (Jvm.Cond.soleField "TideKeepModel" "telling") ∈ lw_all := lw_g (lw_at lw_m7 12 rfl) rfl
theorem q1540 : (Jvm.Cond.laysFinal "TideKeepModel" "TideKeepModel" "triedWet" "[I") ∈ lw_all := lw_g (lw_at lw_m7 13 rfl) rfl
theorem q1541 : (Jvm.Cond.soleField "TideKeepModel" "triedWet") ∈ lw_all := lw_g (lw_at lw_m7 14 rfl) rfl
theorem q1542 : (Jvm.Cond.laysFinal "TideKeepModel" "TideKeepModel" "triedSteep" "[I") ∈ lw_all := lw_g (lw_at lw_m7 15 rfl) rfl
theorem q1543 : (Jvm.Cond.soleField "TideKeepModel" "triedSteep") ∈ lw_all := lw_g (lw_at lw_m7 16 rfl) rfl
theorem q1544 : (Jvm.Cond.laysFinal "TideKeepModel" "TideKeepModel" "triedStood" "[I") ∈ lw_all := lw_g (lw_at lw_m7 17 rfl) rfl
theorem q1545 : (Jvm.Cond.soleField "TideKeepModel" "triedStood") ∈ lw_all := lw_g (lw_at lw_m7 18 rfl) rfl
theorem q1546 : (Jvm.Cond.laysFinal "TideKeepModel" "TideKeepModel" "triedAt" "[I") ∈ lw_all := lw_g (lw_at lw_m7 19 rfl) rfl
theorem q1547 : (Jvm.Cond.soleField "TideKeepModel" "triedAt") ∈ lw_all := lw_g (lw_at lw_m7 20 rfl) rfl
theorem q1548 : (Jvm.Cond.laysFinal "TideKeepModel" "TideKeepModel" "rightOf" "[I") ∈ lw_all := lw_g (lw_at lw_m7 21 rfl) rfl
theorem q1549 : (Jvm.Cond.soleField "TideKeepModel" "rightOf") ∈ lw_all := lw_g (lw_at lw_m7 22 rfl) rfl
theorem q1550 : (Jvm.Cond.laysFinal "TideKeepModel" "TideKeepModel" "rightStood" "[I") ∈ lw_all := lw_g (lw_at lw_m7 23 rfl) rfl
theorem q1551 : (Jvm.Cond.soleField "TideKeepModel" "rightStood") ∈ lw_all := lw_g (lw_at lw_m7 24 rfl) rfl
theorem q1552 : (Jvm.Cond.laysFinal "TideKeepModel" "TideKeepModel" "rightAt" "[I") ∈ lw_all := lw_g (lw_at lw_m7 25 rfl) rfl
theorem q1553 : (Jvm.Cond.soleField "TideKeepModel" "rightAt") ∈ lw_all := lw_g (lw_at lw_m7 26 rfl) rfl
theorem q1554 : (Jvm.Cond.laysFinal "TideKeepModel" "TideKeepModel" "standing" "[I") ∈ lw_all := lw_g (lw_at lw_m7 27 rfl) rfl
theorem q1555 : (Jvm.Cond.soleField "TideKeepModel" "standing") ∈ lw_all := lw_g (lw_at lw_m7 28 rfl) rfl
theorem q1556 : (Jvm.Cond.superclass "TideKeepModel" "java/lang/Object") ∈ lw_all := lw_g (lw_at lw_m7 29 rfl) rfl
theorem q1558 : (Jvm.Cond.instanceMethod ({ cls := "TideKeepModel", name := "feed", desc := "(IIIII)I" } : Jvm.MethodName)) ∈ lw_all := lw_g (lw_at lw_m7 31 rfl) rfl
theorem q1559 : (Jvm.Cond.selects "TideKeepModel" ({ cls := "TideKeepModel", name := "feed", desc := "(IIIII)I" } : Jvm.MethodName) ({ cls := "TideKeepModel", name := "feed", desc := "(IIIII)I" } : Jvm.MethodName)) ∈ lw_all := lw_g (lw_at lw_m7 32 rfl) rfl
theorem q1560 : (Jvm.Cond.code ({ cls := "TideKeepModel", name := "feed", desc := "(IIIII)I" } : Jvm.MethodName) prog_16_method_35_code (6 : Nat) (Option.some Jvm.ClassFile.FieldType.int)) ∈ lw_all := lw_g (lw_at lw_m7 33 rfl) rfl
theorem q1561 : (Jvm.Cond.methodLink "TideKeepModel" (318 : Nat) ({ cls := "TideKeepModel", name := "putFour", desc := "(I)V" } : Jvm.MethodName)) ∈ lw_all := lw_g (lw_at lw_m7 34 rfl) rfl
theorem q1562 : (Jvm.Cond.privateMethod ({ cls := "TideKeepModel", name := "putFour", desc := "(I)V" } : Jvm.MethodName)) ∈ lw_tbl := lw_at lw_m7 35 rfl
theorem q1563 : (Jvm.Cond.instanceMethod ({ cls := "TideKeepModel", name := "putFour", desc := "(I)V" } : Jvm.MethodName)) ∈ lw_all := lw_g (lw_at lw_m7 36 rfl) rfl
theorem q1564 : (Jvm.Cond.code ({ cls := "TideKeepModel", name := "putFour", desc := "(I)V" } : Jvm.MethodName) prog_16_method_36_code (3 : Nat) (Option.none : Option Jvm.ClassFile.FieldType)) ∈ lw_all := lw_g (lw_at lw_m7 37 rfl) rfl
theorem q1566 : (Jvm.Cond.instanceMethod ({ cls := "TideKeepModel", name := "end", desc := "(I)I" } : Jvm.MethodName)) ∈ lw_all := lw_g (lw_at lw_m7 39 rfl) rfl
theorem q1567 : (Jvm.Cond.selects "TideKeepModel" ({ cls := "TideKeepModel", name := "end", desc := "(I)I" } : Jvm.MethodName) ({ cls := "TideKeepModel", name := "end", desc := "(I)I" } : Jvm.MethodName)) ∈ lw_all := lw_g (lw_at lw_m7 40 rfl) rfl
theorem q1568 : (Jvm.Cond.code ({ cls := "TideKeepModel", name := "end", desc := "(I)I" } : Jvm.MethodName) prog_16_method_37_code (2 : Nat) (Option.some Jvm.ClassFile.FieldType.int)) ∈ lw_all := lw_g (lw_at lw_m7 41 rfl) rfl
theorem q1569 : (Jvm.Cond.methodLink "TideKeepModel" (52 : Nat) ({ cls := "TideKeepModel", name := "in", desc := "(JJJ)Z" } : Jvm.MethodName)) ∈ lw_all := lw_g (lw_at lw_m7 42 rfl) rfl
theorem q1570 : (Jvm.Cond.static ({ cls := "TideKeepModel", name := "in", desc := "(JJJ)Z" } : Jvm.MethodName)) ∈ lw_all := lw_g (lw_at lw_m7 43 rfl) rfl
theorem q1571 : (Jvm.Cond.code ({ cls := "TideKeepModel", name := "in", desc := "(JJJ)Z" } : Jvm.MethodName) prog_16_method_1_code (6 : Nat) (Option.some Jvm.ClassFile.FieldType.boolean)) ∈ lw_all := lw_g (lw_at lw_m7 44 rfl) rfl
theorem q1573 : (Jvm.Cond.instanceMethod ({ cls := "TideKeepModel", name := "beach", desc := "()I" } : Jvm.MethodName)) ∈ lw_all := lw_g (lw_at lw_m7 46 rfl) rfl
theorem q1574 : (Jvm.Cond.selects "TideKeepModel" ({ cls := "TideKeepModel", name := "beach", desc := "()I" } : Jvm.MethodName) ({ cls := "TideKeepModel", name := "beach", desc := "()I" } : Jvm.MethodName)) ∈ lw_all := lw_g (lw_at lw_m7 47 rfl) rfl
theorem q1575 : (Jvm.Cond.code ({ cls := "TideKeepModel", name := "beach", desc := "()I" } : Jvm.MethodName) prog_16_method_38_code (2 : Nat) (Option.some Jvm.ClassFile.FieldType.int)) ∈ lw_all := lw_g (lw_at lw_m7 48 rfl) rfl
theorem q1576 : (Jvm.Cond.methodLink "TideKeepModel" (322 : Nat) ({ cls := "TideKeepModel", name := "open", desc := "()V" } : Jvm.MethodName)) ∈ lw_all := lw_g (lw_at lw_m7 49 rfl) rfl
theorem q1577 : (Jvm.Cond.privateMethod ({ cls := "TideKeepModel", name := "open", desc := "()V" } : Jvm.MethodName)) ∈ lw_tbl := lw_at lw_m7 50 rfl
theorem q1578 : (Jvm.Cond.instanceMethod ({ cls := "TideKeepModel", name := "open", desc := "()V" } : Jvm.MethodName)) ∈ lw_all := lw_g (lw_at lw_m7 51 rfl) rfl
theorem q1579 : (Jvm.Cond.code ({ cls := "TideKeepModel", name := "open", desc := "()V" } : Jvm.MethodName) prog_16_method_10_code (1 : Nat) (Option.none : Option Jvm.ClassFile.FieldType)) ∈ lw_all := lw_g (lw_at lw_m7 52 rfl) rfl
theorem q1580 : (Jvm.Cond.methodLink "TideKeepModel" (63 : Nat) ({ cls := "TideKeepModel", name := "scan", desc := "()V" } : Jvm.MethodName)) ∈ lw_all := lw_g (lw_at lw_m7 53 rfl) rfl
theorem q1581 : (Jvm.Cond.privateMethod ({ cls := "TideKeepModel", name := "scan", desc := "()V" } : Jvm.MethodName)) ∈ lw_tbl := lw_at lw_m7 54 rfl
theorem q1582 : (Jvm.Cond.instanceMethod ({ cls := "TideKeepModel", name := "scan", desc := "()V" } : Jvm.MethodName)) ∈ lw_all := lw_g (lw_at lw_m7 55 rfl) rfl
theorem q1583 : (Jvm.Cond.code ({ cls := "TideKeepModel", name := "scan", desc := "()V" } : Jvm.MethodName) prog_16_method_6_code (2 : Nat) (Option.none : Option Jvm.ClassFile.FieldType)) ∈ lw_all := lw_g (lw_at lw_m7 56 rfl) rfl
theorem q1584 : (Jvm.Cond.methodLink "TideKeepModel" (23 : Nat) ({ cls := "TideKeepModel", name := "byteAt", desc := "(I)I" } : Jvm.MethodName)) ∈ lw_all := lw_g (lw_at lw_m7 57 rfl) rfl
theorem q1585 : (Jvm.Cond.privateMethod ({ cls := "TideKeepModel", name := "byteAt", desc := "(I)I" } : Jvm.MethodName)) ∈ lw_tbl := lw_at lw_m7 58 rfl
theorem q1586 : (Jvm.Cond.instanceMethod ({ cls := "TideKeepModel", name := "byteAt", desc := "(I)I" } : Jvm.MethodName)) ∈ lw_all := lw_g (lw_at lw_m7 59 rfl) rfl
theorem q1587 : (Jvm.Cond.code ({ cls := "TideKeepModel", name := "byteAt", desc := "(I)I" } : Jvm.MethodName) prog_16_method_3_code (2 : Nat) (Option.some Jvm.ClassFile.FieldType.int)) ∈ lw_all := lw_g (lw_at lw_m7 60 rfl) rfl
theorem q1588 : (Jvm.Cond.methodLink "TideKeepModel" (30 : Nat) ({ cls := "TideKeepModel", name := "isSmall", desc := "(I)Z" } : Jvm.MethodName)) ∈ lw_all := lw_g (lw_at lw_m7 61 rfl) rfl
theorem q1589 : (Jvm.Cond.static ({ cls := "TideKeepModel", name := "isSmall", desc := "(I)Z" } : Jvm.MethodName)) ∈ lw_all := lw_g (lw_at lw_m7 62 rfl) rfl
theorem q1590 : (Jvm.Cond.code ({ cls := "TideKeepModel", name := "isSmall", desc := "(I)Z" } : Jvm.MethodName) prog_16_method_4_code (1 : Nat) (Option.some Jvm.ClassFile.FieldType.boolean)) ∈ lw_all := lw_g (lw_at lw_m7 63 rfl) rfl
theorem q1591 : (Jvm.Cond.methodLink "TideKeepModel" (34 : Nat) ({ cls := "TideKeepModel", name := "isDigit", desc := "(I)Z" } : Jvm.MethodName)) ∈ lw_all := lw_g (lw_at lw_m7 64 rfl) rfl
theorem q1592 : (Jvm.Cond.static ({ cls := "TideKeepModel", name := "isDigit", desc := "(I)Z" } : Jvm.MethodName)) ∈ lw_all := lw_g (lw_at lw_m7 65 rfl) rfl
theorem q1593 : (Jvm.Cond.code ({ cls := "TideKeepModel", name := "isDigit", desc := "(I)Z" } : Jvm.MethodName) prog_16_method_5_code (1 : Nat) (Option.some Jvm.ClassFile.FieldType.boolean)) ∈ lw_all := lw_g (lw_at lw_m7 66 rfl) rfl
theorem q1594 : (Jvm.Cond.methodLink "TideKeepModel" (325 : Nat) ({ cls := "TideKeepModel", name := "readBeach", desc := "()Z" } : Jvm.MethodName)) ∈ lw_all := lw_g (lw_at lw_m7 67 rfl) rfl
theorem q1595 : (Jvm.Cond.privateMethod ({ cls := "TideKeepModel", name := "readBeach", desc := "()Z" } : Jvm.MethodName)) ∈ lw_tbl := lw_at lw_m7 68 rfl
theorem q1596 : (Jvm.Cond.instanceMethod ({ cls := "TideKeepModel", name := "readBeach", desc := "()Z" } : Jvm.MethodName)) ∈ lw_all := lw_g (lw_at lw_m7 69 rfl) rfl
theorem q1597 : (Jvm.Cond.code ({ cls := "TideKeepModel", name := "readBeach", desc := "()Z" } : Jvm.MethodName) prog_16_method_21_code (2 : Nat) (Option.some Jvm.ClassFile.FieldType.boolean)) ∈ lw_all := lw_g (lw_at lw_m7 70 rfl) rfl
theorem q1598 : (Jvm.Cond.methodLink "TideKeepModel" (134 : Nat) ({ cls := "TideKeepModel", name := "usual", desc := "(I)I" } : Jvm.MethodName)) ∈ lw_all := lw_g (lw_at lw_m7 71 rfl) rfl
theorem q1599 : (Jvm.Cond.static ({ cls := "TideKeepModel", name := "usual", desc := "(I)I" } : Jvm.MethodName)) ∈ lw_all := lw_g (lw_at lw_m7 72 rfl) rfl
theorem q1600 : (Jvm.Cond.code ({ cls := "TideKeepModel", name := "usual", desc := "(I)I" } : Jvm.MethodName) prog_16_method_12_code (1 : Nat) (Option.some Jvm.ClassFile.FieldType.int)) ∈ lw_all := lw_g (lw_at lw_m7 73 rfl) rfl
theorem q1601 : (Jvm.Cond.stringRef "TideKeepModel" (137 : Nat) "beach") ∈ lw_tbl := lw_at lw_m7 74 rfl
theorem q1602 : (Jvm.Cond.methodLink "TideKeepModel" (106 : Nat) ({ cls := "TideKeepModel", name := "is", desc := "(Ljava/lang/String;)Z" } : Jvm.MethodName)) ∈ lw_all := lw_g (lw_at lw_m7 75 rfl) rfl
theorem q1603 : (Jvm.Cond.privateMethod ({ cls := "TideKeepModel", name := "is", desc := "(Ljava/lang/String;)Z" } : Jvm.MethodName)) ∈ lw_tbl := lw_at lw_m7 76 rfl
theorem q1604 : (Jvm.Cond.instanceMethod ({ cls := "TideKeepModel", name := "is", desc := "(Ljava/lang/String;)Z" } : Jvm.MethodName)) ∈ lw_all := lw_g (lw_at lw_m7 77 rfl) rfl
theorem q1605 : (Jvm.Cond.code ({ cls := "TideKeepModel", name := "is", desc := "(Ljava/lang/String;)Z" } : Jvm.MethodName) prog_16_method_7_code (4 : Nat) (Option.some Jvm.ClassFile.FieldType.boolean)) ∈ lw_all := lw_g (lw_at lw_m7 78 rfl) rfl
theorem q1606 : (Jvm.Cond.methodLink "TideKeepModel" (40 : Nat) ({ cls := "java/lang/String", name := "length", desc := "()I" } : Jvm.MethodName)) ∈ lw_all := lw_g (lw_at lw_m7 79 rfl) rfl
theorem q1607 : (Jvm.Cond.methodLink "TideKeepModel" (45 : Nat) ({ cls := "java/lang/String", name := "charAt", desc := "(I)C" } : Jvm.MethodName)) ∈ lw_all := lw_g (lw_at lw_m7 80 rfl) rfl
theorem q1608 : (Jvm.Cond.methodLink "TideKeepModel" (139 : Nat) ({ cls := "TideKeepModel", name := "readShape", desc := "()Z" } : Jvm.MethodName)) ∈ lw_all := lw_g (lw_at lw_m7 81 rfl) rfl
theorem q1609 : (Jvm.Cond.privateMethod ({ cls := "TideKeepModel", name := "readShape", desc := "()Z" } : Jvm.MethodName)) ∈ lw_tbl := lw_at lw_m7 82 rfl
theorem q1610 : (Jvm.Cond.instanceMethod ({ cls := "TideKeepModel", name := "readShape", desc := "()Z" } : Jvm.MethodName)) ∈ lw_all := lw_g (lw_at lw_m7 83 rfl) rfl
theorem q1611 : (Jvm.Cond.code ({ cls := "TideKeepModel", name := "readShape", desc := "()Z" } : Jvm.MethodName) prog_16_method_18_code (1 : Nat) (Option.some Jvm.ClassFile.FieldType.boolean)) ∈ lw_all := lw_g (lw_at lw_m7 84 rfl) rfl
theorem q1612 : (Jvm.Cond.methodLink "TideKeepModel" (49 : Nat) ({ cls := "TideKeepModel", name := "bad", desc := "(I)Z" } : Jvm.MethodName)) ∈ lw_all := lw_g (lw_at lw_m7 85 rfl) rfl
theorem q1613 : (Jvm.Cond.privateMethod ({ cls := "TideKeepModel", name := "bad", desc := "(I)Z" } : Jvm.MethodName)) ∈ lw_tbl := lw_at lw_m7 86 rfl
theorem q1614 : (Jvm.Cond.instanceMethod ({ cls := "TideKeepModel", name := "bad", desc := "(I)Z" } : Jvm.MethodName)) ∈ lw_all := lw_g (lw_at lw_m7 87 rfl) rfl
theorem q1615 : (Jvm.Cond.code ({ cls := "TideKeepModel", name := "bad", desc := "(I)Z" } : Jvm.MethodName) prog_16_method_2_code (2 : Nat) (Option.some Jvm.ClassFile.FieldType.boolean)) ∈ lw_all := lw_g (lw_at lw_m7 88 rfl) rfl
theorem q1616 : (Jvm.Cond.methodLink "TideKeepModel" (70 : Nat) ({ cls := "TideKeepModel", name := "number", desc := "(II)Z" } : Jvm.MethodName)) ∈ lw_all := lw_g (lw_at lw_m7 89 rfl) rfl
theorem q1617 : (Jvm.Cond.privateMethod ({ cls := "TideKeepModel", name := "number", desc := "(II)Z" } : Jvm.MethodName)) ∈ lw_tbl := lw_at lw_m7 90 rfl
theorem q1618 : (Jvm.Cond.instanceMethod ({ cls := "TideKeepModel", name := "number", desc := "(II)Z" } : Jvm.MethodName)) ∈ lw_all := lw_g (lw_at lw_m7 91 rfl) rfl
theorem q1619 : (Jvm.Cond.code ({ cls := "TideKeepModel", name := "number", desc := "(II)Z" } : Jvm.MethodName) prog_16_method_9_code (3 : Nat) (Option.some Jvm.ClassFile.FieldType.boolean)) ∈ lw_all := lw_g (lw_at lw_m7 92 rfl) rfl
theorem q1620 : (Jvm.Cond.methodLink "TideKeepModel" (59 : Nat) ({ cls := "TideKeepModel", name := "peek", desc := "(II)Z" } : Jvm.MethodName)) ∈ lw_all := lw_g (lw_at lw_m7 93 rfl) rfl
theorem q1621 : (Jvm.Cond.privateMethod ({ cls := "TideKeepModel", name := "peek", desc := "(II)Z" } : Jvm.MethodName)) ∈ lw_tbl := lw_at lw_m7 94 rfl
theorem q1622 : (Jvm.Cond.instanceMethod ({ cls := "TideKeepModel", name := "peek", desc := "(II)Z" } : Jvm.MethodName)) ∈ lw_all := lw_g (lw_at lw_m7 95 rfl) rfl
theorem q1623 : (Jvm.Cond.code ({ cls := "TideKeepModel", name := "peek", desc := "(II)Z" } : Jvm.MethodName) prog_16_method_8_code (3 : Nat) (Option.some Jvm.ClassFile.FieldType.boolean)) ∈ lw_all := lw_g (lw_at lw_m7 96 rfl) rfl
theorem q1624 : (Jvm.Cond.stringRef "TideKeepModel" (143 : Nat) "heap") ∈ lw_tbl := lw_at lw_m7 97 rfl
theorem q1625 : (Jvm.Cond.methodLink "TideKeepModel" (145 : Nat) ({ cls := "TideKeepModel", name := "readHeap", desc := "()Z" } : Jvm.MethodName)) ∈ lw_all := lw_g (lw_at lw_m7 98 rfl) rfl
theorem q1626 : (Jvm.Cond.privateMethod ({ cls := "TideKeepModel", name := "readHeap", desc := "()Z" } : Jvm.MethodName)) ∈ lw_tbl := lw_at lw_m7 99 rfl
theorem q1627 : (Jvm.Cond.instanceMethod ({ cls := "TideKeepModel", name := "readHeap", desc := "()Z" } : Jvm.MethodName)) ∈ lw_all := lw_g (lw_at lw_m7 100 rfl) rfl
theorem q1628 : (Jvm.Cond.code ({ cls := "TideKeepModel", name := "readHeap", desc := "()Z" } : Jvm.MethodName) prog_16_method_15_code (2 : Nat) (Option.some Jvm.ClassFile.FieldType.boolean)) ∈ lw_all := lw_g (lw_at lw_m7 101 rfl) rfl
theorem q1629 : (Jvm.Cond.methodLink "TideKeepModel" (79 : Nat) ({ cls := "TideKeepModel", name := "cellAt", desc := "(III)Z" } : Jvm.MethodName)) ∈ lw_all := lw_g (lw_at lw_m7 102 rfl) rfl
theorem q1630 : (Jvm.Cond.privateMethod ({ cls := "TideKeepModel", name := "cellAt", desc := "(III)Z" } : Jvm.MethodName)) ∈ lw_tbl := lw_at lw_m7 103 rfl
theorem q1631 : (Jvm.Cond.instanceMethod ({ cls := "TideKeepModel", name := "cellAt", desc := "(III)Z" } : Jvm.MethodName)) ∈ lw_all := lw_g (lw_at lw_m7 104 rfl) rfl
theorem q1632 : (Jvm.Cond.code ({ cls := "TideKeepModel", name := "cellAt", desc := "(III)Z" } : Jvm.MethodName) prog_16_method_14_code (4 : Nat) (Option.some Jvm.ClassFile.FieldType.boolean)) ∈ lw_all := lw_g (lw_at lw_m7 105 rfl) rfl
theorem q1633 : (Jvm.Cond.stringRef "TideKeepModel" (147 : Nat) "stone") ∈ lw_tbl := lw_at lw_m7 106 rfl
theorem q1634 : (Jvm.Cond.methodLink "TideKeepModel" (149 : Nat) ({ cls := "TideKeepModel", name := "readStone", desc := "()Z" } : Jvm.MethodName)) ∈ lw_all := lw_g (lw_at lw_m7 107 rfl) rfl
theorem q1635 : (Jvm.Cond.privateMethod ({ cls := "TideKeepModel", name := "readStone", desc := "()Z" } : Jvm.MethodName)) ∈ lw_tbl := lw_at lw_m7 108 rfl
theorem q1636 : (Jvm.Cond.instanceMethod ({ cls := "TideKeepModel", name := "readStone", desc := "()Z" } : Jvm.MethodName)) ∈ lw_all := lw_g (lw_at lw_m7 109 rfl) rfl
theorem q1637 : (Jvm.Cond.code ({ cls := "TideKeepModel", name := "readStone", desc := "()Z" } : Jvm.MethodName) prog_16_method_16_code (1 : Nat) (Option.some Jvm.ClassFile.FieldType.boolean)) ∈ lw_all := lw_g (lw_at lw_m7 110 rfl) rfl
theorem q1638 : (Jvm.Cond.stringRef "TideKeepModel" (151 : Nat) "flag") ∈ lw_tbl := lw_at lw_m7 111 rfl
theorem q1639 : (Jvm.Cond.methodLink "TideKeepModel" (153 : Nat) ({ cls := "TideKeepModel", name := "readFlag", desc := "()Z" } : Jvm.MethodName)) ∈ lw_all := lw_g (lw_at lw_m7 112 rfl) rfl
theorem q1640 : (Jvm.Cond.privateMethod ({ cls := "TideKeepModel", name := "readFlag", desc := "()Z" } : Jvm.MethodName)) ∈ lw_tbl := lw_at lw_m7 113 rfl
theorem q1641 : (Jvm.Cond.instanceMethod ({ cls := "TideKeepModel", name := "readFlag", desc := "()Z" } : Jvm.MethodName)) ∈ lw_all := lw_g (lw_at lw_m7 114 rfl) rfl
theorem q1642 : (Jvm.Cond.code ({ cls := "TideKeepModel", name := "readFlag", desc := "()Z" } : Jvm.MethodName) prog_16_method_17_code (2 : Nat) (Option.some Jvm.ClassFile.FieldType.boolean)) ∈ lw_all := lw_g (lw_at lw_m7 115 rfl) rfl
theorem q1643 : (Jvm.Cond.methodLink "TideKeepModel" (156 : Nat) ({ cls := "TideKeepModel", name := "readSmall", desc := "()Z" } : Jvm.MethodName)) ∈ lw_all := lw_g (lw_at lw_m7 116 rfl) rfl
theorem q1644 : (Jvm.Cond.privateMethod ({ cls := "TideKeepModel", name := "readSmall", desc := "()Z" } : Jvm.MethodName)) ∈ lw_tbl := lw_at lw_m7 117 rfl
theorem q1645 : (Jvm.Cond.instanceMethod ({ cls := "TideKeepModel", name := "readSmall", desc := "()Z" } : Jvm.MethodName)) ∈ lw_all := lw_g (lw_at lw_m7 118 rfl) rfl
theorem q1646 : (Jvm.Cond.code ({ cls := "TideKeepModel", name := "readSmall", desc := "()Z" } : Jvm.MethodName) prog_16_method_20_code (3 : Nat) (Option.some Jvm.ClassFile.FieldType.boolean)) ∈ lw_all := lw_g (lw_at lw_m7 119 rfl) rfl
theorem q1647 : (Jvm.Cond.methodLink "TideKeepModel" (122 : Nat) ({ cls := "TideKeepModel", name := "wordAt", desc := "()I" } : Jvm.MethodName)) ∈ lw_all := lw_g (lw_at lw_m7 120 rfl) rfl
theorem q1648 : (Jvm.Cond.privateMethod ({ cls := "TideKeepModel", name := "wordAt", desc := "()I" } : Jvm.MethodName)) ∈ lw_tbl := lw_at lw_m7 121 rfl
theorem q1649 : (Jvm.Cond.instanceMethod ({ cls := "TideKeepModel", name := "wordAt", desc := "()I" } : Jvm.MethodName)) ∈ lw_all := lw_g (lw_at lw_m7 122 rfl) rfl
theorem q1650 : (Jvm.Cond.code ({ cls := "TideKeepModel", name := "wordAt", desc := "()I" } : Jvm.MethodName) prog_16_method_19_code (1 : Nat) (Option.some Jvm.ClassFile.FieldType.int)) ∈ lw_all := lw_g (lw_at lw_m7 123 rfl) rfl
theorem q1651 : (Jvm.Cond.stringRef "TideKeepModel" (104 : Nat) "sand") ∈ lw_tbl := lw_at lw_m7 124 rfl
theorem q1652 : (Jvm.Cond.stringRef "TideKeepModel" (110 : Nat) "pack") ∈ lw_tbl := lw_at lw_m7 125 rfl
theorem q1653 : (Jvm.Cond.stringRef "TideKeepModel" (112 : Nat) "dry") ∈ lw_tbl := lw_at lw_m7 126 rfl
theorem q1654 : (Jvm.Cond.stringRef "TideKeepModel" (114 : Nat) "damp") ∈ lw_tbl := lw_at lw_m7 127 rfl
theorem q1655 : (Jvm.Cond.stringRef "TideKeepModel" (116 : Nat) "fall") ∈ lw_tbl := lw_at lw_m7 128 rfl
theorem q1656 : (Jvm.Cond.stringRef "TideKeepModel" (118 : Nat) "tire") ∈ lw_tbl := lw_at lw_m7 129 rfl
theorem q1657 : (Jvm.Cond.stringRef "TideKeepModel" (120 : Nat) "hump") ∈ lw_tbl := lw_at lw_m7 130 rfl
theorem q1658 : (Jvm.Cond.methodLink "TideKeepModel" (125 : Nat) ({ cls := "TideKeepModel", name := "greatest", desc := "(I)I" } : Jvm.MethodName)) ∈ lw_all := lw_g (lw_at lw_m7 131 rfl) rfl
theorem q1659 : (Jvm.Cond.static ({ cls := "TideKeepModel", name := "greatest", desc := "(I)I" } : Jvm.MethodName)) ∈ lw_all := lw_g (lw_at lw_m7 132 rfl) rfl
theorem q1660 : (Jvm.Cond.code ({ cls := "TideKeepModel", name := "greatest", desc := "(I)I" } : Jvm.MethodName) prog_16_method_13_code (1 : Nat) (Option.some Jvm.ClassFile.FieldType.int)) ∈ lw_all := lw_g (lw_at lw_m7 133 rfl) rfl
theorem q1661 : (Jvm.Cond.methodLink "TideKeepModel" (159 : Nat) ({ cls := "TideKeepModel", name := "close", desc := "()Z" } : Jvm.MethodName)) ∈ lw_all := lw_g (lw_at lw_m7 134 rfl) rfl
theorem q1662 : (Jvm.Cond.privateMethod ({ cls := "TideKeepModel", name := "close", desc := "()Z" } : Jvm.MethodName)) ∈ lw_tbl := lw_at lw_m7 135 rfl
theorem q1663 : (Jvm.Cond.instanceMethod ({ cls := "TideKeepModel", name := "close", desc := "()Z" } : Jvm.MethodName)) ∈ lw_all := lw_g (lw_at lw_m7 136 rfl) rfl
theorem q1664 : (Jvm.Cond.code ({ cls := "TideKeepModel", name := "close", desc := "()Z" } : Jvm.MethodName) prog_16_method_11_code (1 : Nat) (Option.some Jvm.ClassFile.FieldType.boolean)) ∈ lw_all := lw_g (lw_at lw_m7 137 rfl) rfl
theorem q1666 : (Jvm.Cond.instanceMethod ({ cls := "TideKeepModel", name := "sea", desc := "()I" } : Jvm.MethodName)) ∈ lw_all := lw_g (lw_at lw_m7 139 rfl) rfl
theorem q1667 : (Jvm.Cond.selects "TideKeepModel" ({ cls := "TideKeepModel", name := "sea", desc := "()I" } : Jvm.MethodName) ({ cls := "TideKeepModel", name := "sea", desc := "()I" } : Jvm.MethodName)) ∈ lw_all := lw_g (lw_at lw_m7 140 rfl) rfl
theorem q1668 : (Jvm.Cond.code ({ cls := "TideKeepModel", name := "sea", desc := "()I" } : Jvm.MethodName) prog_16_method_39_code (2 : Nat) (Option.some Jvm.ClassFile.FieldType.int)) ∈ lw_all := lw_g (lw_at lw_m7 141 rfl) rfl
theorem q1669 : (Jvm.Cond.methodLink "TideKeepModel" (331 : Nat) ({ cls := "TideKeepModel", name := "readSea", desc := "()Z" } : Jvm.MethodName)) ∈ lw_all := lw_g (lw_at lw_m7 142 rfl) rfl
theorem q1670 : (Jvm.Cond.privateMethod ({ cls := "TideKeepModel", name := "readSea", desc := "()Z" } : Jvm.MethodName)) ∈ lw_tbl := lw_at lw_m7 143 rfl
theorem q1671 : (Jvm.Cond.instanceMethod ({ cls := "TideKeepModel", name := "readSea", desc := "()Z" } : Jvm.MethodName)) ∈ lw_all := lw_g (lw_at lw_m7 144 rfl) rfl
theorem q1672 : (Jvm.Cond.code ({ cls := "TideKeepModel", name := "readSea", desc := "()Z" } : Jvm.MethodName) prog_16_method_26_code (2 : Nat) (Option.some Jvm.ClassFile.FieldType.boolean)) ∈ lw_all := lw_g (lw_at lw_m7 145 rfl) rfl
theorem q1673 : (Jvm.Cond.stringRef "TideKeepModel" (194 : Nat) "wave") ∈ lw_tbl := lw_at lw_m7 146 rfl
theorem q1674 : (Jvm.Cond.methodLink "TideKeepModel" (196 : Nat) ({ cls := "TideKeepModel", name := "readWave", desc := "()Z" } : Jvm.MethodName)) ∈ lw_all := lw_g (lw_at lw_m7 147 rfl) rfl
theorem q1675 : (Jvm.Cond.privateMethod ({ cls := "TideKeepModel", name := "readWave", desc := "()Z" } : Jvm.MethodName)) ∈ lw_tbl := lw_at lw_m7 148 rfl
theorem q1676 : (Jvm.Cond.instanceMethod ({ cls := "TideKeepModel", name := "readWave", desc := "()Z" } : Jvm.MethodName)) ∈ lw_all := lw_g (lw_at lw_m7 149 rfl) rfl
theorem q1677 : (Jvm.Cond.code ({ cls := "TideKeepModel", name := "readWave", desc := "()Z" } : Jvm.MethodName) prog_16_method_22_code (1 : Nat) (Option.some Jvm.ClassFile.FieldType.boolean)) ∈ lw_all := lw_g (lw_at lw_m7 150 rfl) rfl
theorem q1678 : (Jvm.Cond.methodLink "TideKeepModel" (198 : Nat) ({ cls := "TideKeepModel", name := "readSeaWord", desc := "()Z" } : Jvm.MethodName)) ∈ lw_all := lw_g (lw_at lw_m7 151 rfl) rfl
theorem q1679 : (Jvm.Cond.privateMethod ({ cls := "TideKeepModel", name := "readSeaWord", desc := "()Z" } : Jvm.MethodName)) ∈ lw_tbl := lw_at lw_m7 152 rfl
theorem q1680 : (Jvm.Cond.instanceMethod ({ cls := "TideKeepModel", name := "readSeaWord", desc := "()Z" } : Jvm.MethodName)) ∈ lw_all := lw_g (lw_at lw_m7 153 rfl) rfl
theorem q1681 : (Jvm.Cond.code ({ cls := "TideKeepModel", name := "readSeaWord", desc := "()Z" } : Jvm.MethodName) prog_16_method_25_code (2 : Nat) (Option.some Jvm.ClassFile.FieldType.boolean)) ∈ lw_all := lw_g (lw_at lw_m7 154 rfl) rfl
theorem q1682 : (Jvm.Cond.stringRef "TideKeepModel" (171 : Nat) "tide") ∈ lw_tbl := lw_at lw_m7 155 rfl
theorem q1683 : (Jvm.Cond.stringRef "TideKeepModel" (173 : Nat) "reach") ∈ lw_tbl := lw_at lw_m7 156 rfl
theorem q1684 : (Jvm.Cond.stringRef "TideKeepModel" (175 : Nat) "level") ∈ lw_tbl := lw_at lw_m7 157 rfl
theorem q1685 : (Jvm.Cond.stringRef "TideKeepModel" (177 : Nat) "cut") ∈ lw_tbl := lw_at lw_m7 158 rfl
theorem q1686 : (Jvm.Cond.methodLink "TideKeepModel" (179 : Nat) ({ cls := "TideKeepModel", name := "readTide", desc := "()Z" } : Jvm.MethodName)) ∈ lw_all := lw_g (lw_at lw_m7 159 rfl) rfl
theorem q1687 : (Jvm.Cond.privateMethod ({ cls := "TideKeepModel", name := "readTide", desc := "()Z" } : Jvm.MethodName)) ∈ lw_tbl := lw_at lw_m7 160 rfl
theorem q1688 : (Jvm.Cond.instanceMethod ({ cls := "TideKeepModel", name := "readTide", desc := "()Z" } : Jvm.MethodName)) ∈ lw_all := lw_g (lw_at lw_m7 161 rfl) rfl
theorem q1689 : (Jvm.Cond.code ({ cls := "TideKeepModel", name := "readTide", desc := "()Z" } : Jvm.MethodName) prog_16_method_23_code (1 : Nat) (Option.some Jvm.ClassFile.FieldType.boolean)) ∈ lw_all := lw_g (lw_at lw_m7 162 rfl) rfl
theorem q1690 : (Jvm.Cond.methodLink "TideKeepModel" (184 : Nat) ({ cls := "TideKeepModel", name := "readTwo", desc := "([III)Z" } : Jvm.MethodName)) ∈ lw_all := lw_g (lw_at lw_m7 163 rfl) rfl
theorem q1691 : (Jvm.Cond.privateMethod ({ cls := "TideKeepModel", name := "readTwo", desc := "([III)Z" } : Jvm.MethodName)) ∈ lw_tbl := lw_at lw_m7 164 rfl
theorem q1692 : (Jvm.Cond.instanceMethod ({ cls := "TideKeepModel", name := "readTwo", desc := "([III)Z" } : Jvm.MethodName)) ∈ lw_all := lw_g (lw_at lw_m7 165 rfl) rfl
theorem q1693 : (Jvm.Cond.code ({ cls := "TideKeepModel", name := "readTwo", desc := "([III)Z" } : Jvm.MethodName) prog_16_method_24_code (4 : Nat) (Option.some Jvm.ClassFile.FieldType.boolean)) ∈ lw_all := lw_g (lw_at lw_m7 166 rfl) rfl
theorem q1695 : (Jvm.Cond.instanceMethod ({ cls := "TideKeepModel", name := "plan", desc := "()I" } : Jvm.MethodName)) ∈ lw_all := lw_g (lw_at lw_m7 168 rfl) rfl
theorem q1696 : (Jvm.Cond.selects "TideKeepModel" ({ cls := "TideKeepModel", name := "plan", desc := "()I" } : Jvm.MethodName) ({ cls := "TideKeepModel", name := "plan", desc := "()I" } : Jvm.MethodName)) ∈ lw_all := lw_g (lw_at lw_m7 169 rfl) rfl
theorem q1697 : (Jvm.Cond.code ({ cls := "TideKeepModel", name := "plan", desc := "()I" } : Jvm.MethodName) prog_16_method_40_code (1 : Nat) (Option.some Jvm.ClassFile.FieldType.int)) ∈ lw_all := lw_g (lw_at lw_m7 170 rfl) rfl
theorem q1698 : (Jvm.Cond.methodLink "TideKeepModel" (340 : Nat) ({ cls := "TideKeepModel", name := "readPlan", desc := "()Z" } : Jvm.MethodName)) ∈ lw_all := lw_g (lw_at lw_m7 171 rfl) rfl
theorem q1699 : (Jvm.Cond.privateMethod ({ cls := "TideKeepModel", name := "readPlan", desc := "()Z" } : Jvm.MethodName)) ∈ lw_tbl := lw_at lw_m7 172 rfl
theorem q1700 : (Jvm.Cond.instanceMethod ({ cls := "TideKeepModel", name := "readPlan", desc := "()Z" } : Jvm.MethodName)) ∈ lw_all := lw_g (lw_at lw_m7 173 rfl) rfl
theorem q1701 : (Jvm.Cond.code ({ cls := "TideKeepModel", name := "readPlan", desc := "()Z" } : Jvm.MethodName) prog_16_method_31_code (1 : Nat) (Option.some Jvm.ClassFile.FieldType.boolean)) ∈ lw_all := lw_g (lw_at lw_m7 174 rfl) rfl
theorem q1702 : (Jvm.Cond.methodLink "TideKeepModel" (237 : Nat) ({ cls := "TideKeepModel", name := "readHand", desc := "()Z" } : Jvm.MethodName)) ∈ lw_all := lw_g (lw_at lw_m7 175 rfl) rfl
theorem q1703 : (Jvm.Cond.privateMethod ({ cls := "TideKeepModel", name := "readHand", desc := "()Z" } : Jvm.MethodName)) ∈ lw_tbl := lw_at lw_m7 176 rfl
theorem q1704 : (Jvm.Cond.instanceMethod ({ cls := "TideKeepModel", name := "readHand", desc := "()Z" } : Jvm.MethodName)) ∈ lw_all := lw_g (lw_at lw_m7 177 rfl) rfl
theorem q1705 : (Jvm.Cond.code ({ cls := "TideKeepModel", name := "readHand", desc := "()Z" } : Jvm.MethodName) prog_16_method_30_code (3 : Nat) (Option.some Jvm.ClassFile.FieldType.boolean)) ∈ lw_all := lw_g (lw_at lw_m7 178 rfl) rfl
theorem q1706 : (Jvm.Cond.stringRef "TideKeepModel" (221 : Nat) "hand") ∈ lw_tbl := lw_at lw_m7 179 rfl
theorem q1707 : (Jvm.Cond.methodLink "TideKeepModel" (231 : Nat) ({ cls := "TideKeepModel", name := "actAt", desc := "()I" } : Jvm.MethodName)) ∈ lw_all := lw_g (lw_at lw_m7 180 rfl) rfl
theorem q1708 : (Jvm.Cond.privateMethod ({ cls := "TideKeepModel", name := "actAt", desc := "()I" } : Jvm.MethodName)) ∈ lw_tbl := lw_at lw_m7 181 rfl
theorem q1709 : (Jvm.Cond.instanceMethod ({ cls := "TideKeepModel", name := "actAt", desc := "()I" } : Jvm.MethodName)) ∈ lw_all := lw_g (lw_at lw_m7 182 rfl) rfl
theorem q1710 : (Jvm.Cond.code ({ cls := "TideKeepModel", name := "actAt", desc := "()I" } : Jvm.MethodName) prog_16_method_29_code (1 : Nat) (Option.some Jvm.ClassFile.FieldType.int)) ∈ lw_all := lw_g (lw_at lw_m7 183 rfl) rfl
theorem q1711 : (Jvm.Cond.stringRef "TideKeepModel" (213 : Nat) "dig") ∈ lw_tbl := lw_at lw_m7 184 rfl
theorem q1712 : (Jvm.Cond.stringRef "TideKeepModel" (215 : Nat) "wet") ∈ lw_tbl := lw_at lw_m7 185 rfl
theorem q1713 : (Jvm.Cond.stringRef "TideKeepModel" (217 : Nat) "wall") ∈ lw_tbl := lw_at lw_m7 186 rfl
theorem q1714 : (Jvm.Cond.stringRef "TideKeepModel" (219 : Nat) "rest") ∈ lw_tbl := lw_at lw_m7 187 rfl
theorem q1715 : (Jvm.Cond.methodLink "TideKeepModel" (234 : Nat) ({ cls := "TideKeepModel", name := "readAct", desc := "(II)Z" } : Jvm.MethodName)) ∈ lw_all := lw_g (lw_at lw_m7 188 rfl) rfl
theorem q1716 : (Jvm.Cond.privateMethod ({ cls := "TideKeepModel", name := "readAct", desc := "(II)Z" } : Jvm.MethodName)) ∈ lw_tbl := lw_at lw_m7 189 rfl
theorem q1717 : (Jvm.Cond.instanceMethod ({ cls := "TideKeepModel", name := "readAct", desc := "(II)Z" } : Jvm.MethodName)) ∈ lw_all := lw_g (lw_at lw_m7 190 rfl) rfl
theorem q1718 : (Jvm.Cond.code ({ cls := "TideKeepModel", name := "readAct", desc := "(II)Z" } : Jvm.MethodName) prog_16_method_28_code (3 : Nat) (Option.some Jvm.ClassFile.FieldType.boolean)) ∈ lw_all := lw_g (lw_at lw_m7 191 rfl) rfl
theorem q1719 : (Jvm.Cond.methodLink "TideKeepModel" (210 : Nat) ({ cls := "TideKeepModel", name := "readCell", desc := "()Z" } : Jvm.MethodName)) ∈ lw_all := lw_g (lw_at lw_m7 192 rfl) rfl
theorem q1720 : (Jvm.Cond.privateMethod ({ cls := "TideKeepModel", name := "readCell", desc := "()Z" } : Jvm.MethodName)) ∈ lw_tbl := lw_at lw_m7 193 rfl
theorem q1721 : (Jvm.Cond.instanceMethod ({ cls := "TideKeepModel", name := "readCell", desc := "()Z" } : Jvm.MethodName)) ∈ lw_all := lw_g (lw_at lw_m7 194 rfl) rfl
theorem q1722 : (Jvm.Cond.code ({ cls := "TideKeepModel", name := "readCell", desc := "()Z" } : Jvm.MethodName) prog_16_method_27_code (1 : Nat) (Option.some Jvm.ClassFile.FieldType.boolean)) ∈ lw_all := lw_g (lw_at lw_m7 195 rfl) rfl
theorem q1724 : (Jvm.Cond.instanceMethod ({ cls := "TideKeepModel", name := "fault", desc := "(I)I" } : Jvm.MethodName)) ∈ lw_all := lw_g (lw_at lw_m7 197 rfl) rfl
theorem q1725 : (Jvm.Cond.selects "TideKeepModel" ({ cls := "TideKeepModel", name := "fault", desc := "(I)I" } : Jvm.MethodName) ({ cls := "TideKeepModel", name := "fault", desc := "(I)I" } : Jvm.MethodName)) ∈ lw_all := lw_g (lw_at lw_m7 198 rfl) rfl
theorem q1726 : (Jvm.Cond.code ({ cls := "TideKeepModel", name := "fault", desc := "(I)I" } : Jvm.MethodName) prog_16_method_41_code (2 : Nat) (Option.some Jvm.ClassFile.FieldType.int)) ∈ lw_all := lw_g (lw_at lw_m7 199 rfl) rfl
theorem q1728 : (Jvm.Cond.instanceMethod ({ cls := "TideKeepModel", name := "told", desc := "(I)I" } : Jvm.MethodName)) ∈ lw_all := lw_g (lw_at lw_m7 201 rfl) rfl
theorem q1729 : (Jvm.Cond.selects "TideKeepModel" ({ cls := "TideKeepModel", name := "told", desc := "(I)I" } : Jvm.MethodName) ({ cls := "TideKeepModel", name := "told", desc := "(I)I" } : Jvm.MethodName)) ∈ lw_all := lw_g (lw_at lw_m7 202 rfl) rfl
theorem q1730 : (Jvm.Cond.code ({ cls := "TideKeepModel", name := "told", desc := "(I)I" } : Jvm.MethodName) prog_16_method_42_code (2 : Nat) (Option.some Jvm.ClassFile.FieldType.int)) ∈ lw_all := lw_g (lw_at lw_m7 203 rfl) rfl
theorem q1731 : (Jvm.Cond.constantLong "TideKeepModel" (343 : Nat) (2 : Int64)) ∈ lw_all := lw_g (lw_at lw_m7 204 rfl) rfl
theorem q1732 : (Jvm.Cond.constantLong "TideKeepModel" (345 : Nat) (10 : Int64)) ∈ lw_all := lw_g (lw_at lw_m7 205 rfl) rfl
theorem q1733 : (Jvm.Cond.constantLong "TideKeepModel" (347 : Nat) (13 : Int64)) ∈ lw_all := lw_g (lw_at lw_m7 206 rfl) rfl
theorem q1734 : (Jvm.Cond.constantLong "TideKeepModel" (349 : Nat) (16 : Int64)) ∈ lw_all := lw_g (lw_at lw_m7 207 rfl) rfl
theorem q1736 : (Jvm.Cond.instanceMethod ({ cls := "TideKeepModel", name := "wave", desc := "(II)I" } : Jvm.MethodName)) ∈ lw_all := lw_g (lw_at lw_m7 209 rfl) rfl
theorem q1737 : (Jvm.Cond.selects "TideKeepModel" ({ cls := "TideKeepModel", name := "wave", desc := "(II)I" } : Jvm.MethodName) ({ cls := "TideKeepModel", name := "wave", desc := "(II)I" } : Jvm.MethodName)) ∈ lw_all := lw_g (lw_at lw_m7 210 rfl) rfl
theorem q1738 : (Jvm.Cond.code ({ cls := "TideKeepModel", name := "wave", desc := "(II)I" } : Jvm.MethodName) prog_16_method_43_code (3 : Nat) (Option.some Jvm.ClassFile.FieldType.int)) ∈ lw_all := lw_g (lw_at lw_m7 211 rfl) rfl
theorem q1740 : (Jvm.Cond.instanceMethod ({ cls := "TideKeepModel", name := "act", desc := "(IIII)I" } : Jvm.MethodName)) ∈ lw_all := lw_g (lw_at lw_m7 213 rfl) rfl
theorem q1741 : (Jvm.Cond.selects "TideKeepModel" ({ cls := "TideKeepModel", name := "act", desc := "(IIII)I" } : Jvm.MethodName) ({ cls := "TideKeepModel", name := "act", desc := "(IIII)I" } : Jvm.MethodName)) ∈ lw_all := lw_g (lw_at lw_m7 214 rfl) rfl
theorem q1742 : (Jvm.Cond.code ({ cls := "TideKeepModel", name := "act", desc := "(IIII)I" } : Jvm.MethodName) prog_16_method_45_code (6 : Nat) (Option.some Jvm.ClassFile.FieldType.int)) ∈ lw_all := lw_g (lw_at lw_m7 215 rfl) rfl
theorem q1743 : (Jvm.Cond.methodLink "TideKeepModel" (351 : Nat) ({ cls := "TideKeepModel", name := "isPlan", desc := "(I)Z" } : Jvm.MethodName)) ∈ lw_all := lw_g (lw_at lw_m7 216 rfl) rfl
theorem q1744 : (Jvm.Cond.privateMethod ({ cls := "TideKeepModel", name := "isPlan", desc := "(I)Z" } : Jvm.MethodName)) ∈ lw_tbl := lw_at lw_m7 217 rfl
theorem q1745 : (Jvm.Cond.instanceMethod ({ cls := "TideKeepModel", name := "isPlan", desc := "(I)Z" } : Jvm.MethodName)) ∈ lw_all := lw_g (lw_at lw_m7 218 rfl) rfl
theorem q1746 : (Jvm.Cond.code ({ cls := "TideKeepModel", name := "isPlan", desc := "(I)Z" } : Jvm.MethodName) prog_16_method_44_code (2 : Nat) (Option.some Jvm.ClassFile.FieldType.boolean)) ∈ lw_all := lw_g (lw_at lw_m7 219 rfl) rfl
theorem q1748 : (Jvm.Cond.instanceMethod ({ cls := "TideKeepModel", name := "chance", desc := "(I)I" } : Jvm.MethodName)) ∈ lw_all := lw_g (lw_at lw_m7 221 rfl) rfl
theorem q1749 : (Jvm.Cond.selects "TideKeepModel" ({ cls := "TideKeepModel", name := "chance", desc := "(I)I" } : Jvm.MethodName) ({ cls := "TideKeepModel", name := "chance", desc := "(I)I" } : Jvm.MethodName)) ∈ lw_all := lw_g (lw_at lw_m7 222 rfl) rfl
theorem q1750 : (Jvm.Cond.code ({ cls := "TideKeepModel", name := "chance", desc := "(I)I" } : Jvm.MethodName) prog_16_method_60_code (2 : Nat) (Option.some Jvm.ClassFile.FieldType.int)) ∈ lw_all := lw_g (lw_at lw_m7 223 rfl) rfl
theorem q1752 : (Jvm.Cond.instanceMethod ({ cls := "TideKeepModel", name := "work", desc := "(I)I" } : Jvm.MethodName)) ∈ lw_all := lw_g (lw_at lw_m7 225 rfl) rfl
theorem q1753 : (Jvm.Cond.selects "TideKeepModel" ({ cls := "TideKeepModel", name := "work", desc := "(I)I" } : Jvm.MethodName) ({ cls := "TideKeepModel", name := "work", desc := "(I)I" } : Jvm.MethodName)) ∈ lw_all := lw_g (lw_at lw_m7 226 rfl) rfl
theorem q1754 : (Jvm.Cond.code ({ cls := "TideKeepModel", name := "work", desc := "(I)I" } : Jvm.MethodName) prog_16_method_62_code (2 : Nat) (Option.some Jvm.ClassFile.FieldType.int)) ∈ lw_all := lw_g (lw_at lw_m7 227 rfl) rfl
theorem q1755 : (Jvm.Cond.methodLink "TideKeepModel" (417 : Nat) ({ cls := "TideKeepModel", name := "putPlan", desc := "([II)V" } : Jvm.MethodName)) ∈ lw_all := lw_g (lw_at lw_m7 228 rfl) rfl
theorem q1756 : (Jvm.Cond.static ({ cls := "TideKeepModel", name := "putPlan", desc := "([II)V" } : Jvm.MethodName)) ∈ lw_all := lw_g (lw_at lw_m7 229 rfl) rfl
theorem q1757 : (Jvm.Cond.code ({ cls := "TideKeepModel", name := "putPlan", desc := "([II)V" } : Jvm.MethodName) prog_16_method_61_code (3 : Nat) (Option.none : Option Jvm.ClassFile.FieldType)) ∈ lw_all := lw_g (lw_at lw_m7 230 rfl) rfl
theorem q1759 : (Jvm.Cond.instanceMethod ({ cls := "TideKeepModel", name := "pass", desc := "(I)I" } : Jvm.MethodName)) ∈ lw_all := lw_g (lw_at lw_m7 232 rfl) rfl
theorem q1760 : (Jvm.Cond.selects "TideKeepModel" ({ cls := "TideKeepModel", name := "pass", desc := "(I)I" } : Jvm.MethodName) ({ cls := "TideKeepModel", name := "pass", desc := "(I)I" } : Jvm.MethodName)) ∈ lw_all := lw_g (lw_at lw_m7 233 rfl) rfl
theorem q1761 : (Jvm.Cond.code ({ cls := "TideKeepModel", name := "pass", desc := "(I)I" } : Jvm.MethodName) prog_16_method_63_code (3 : Nat) (Option.some Jvm.ClassFile.FieldType.int)) ∈ lw_all := lw_g (lw_at lw_m7 234 rfl) rfl
theorem q1762 : (Jvm.Cond.constantLong "TideKeepModel" (420 : Nat) (360 : Int64)) ∈ lw_all := lw_g (lw_at lw_m7 235 rfl) rfl
theorem q1763 : (Jvm.Cond.methodLink "TideKeepModel" (422 : Nat) ({ cls := "TideKeepModel", name := "minute", desc := "([I)V" } : Jvm.MethodName)) ∈ lw_all := lw_g (lw_at lw_m7 236 rfl) rfl
theorem q1764 : (Jvm.Cond.privateMethod ({ cls := "TideKeepModel", name := "minute", desc := "([I)V" } : Jvm.MethodName)) ∈ lw_tbl := lw_at lw_m7 237 rfl
theorem q1765 : (Jvm.Cond.instanceMethod ({ cls := "TideKeepModel", name := "minute", desc := "([I)V" } : Jvm.MethodName)) ∈ lw_all := lw_g (lw_at lw_m7 238 rfl) rfl
theorem q1766 : (Jvm.Cond.code ({ cls := "TideKeepModel", name := "minute", desc := "([I)V" } : Jvm.MethodName) prog_16_method_59_code (2 : Nat) (Option.none : Option Jvm.ClassFile.FieldType)) ∈ lw_all := lw_g (lw_at lw_m7 239 rfl) rfl
theorem q1767 : (Jvm.Cond.methodLink "TideKeepModel" (411 : Nat) ({ cls := "TideKeepModel", name := "handsDo", desc := "([I)V" } : Jvm.MethodName)) ∈ lw_all := lw_g (lw_at lw_m8 0 rfl) rfl
theorem q1768 : (Jvm.Cond.privateMethod ({ cls := "TideKeepModel", name := "handsDo", desc := "([I)V" } : Jvm.MethodName)) ∈ lw_tbl := lw_at lw_m8 1 rfl
theorem q1769 : (Jvm.Cond.instanceMethod ({ cls := "TideKeepModel", name := "handsDo", desc := "([I)V" } : Jvm.MethodName)) ∈ lw_all := lw_g (lw_at lw_m8 2 rfl) rfl
theorem q1770 : (Jvm.Cond.code ({ cls := "TideKeepModel", name := "handsDo", desc := "([I)V" } : Jvm.MethodName) prog_16_method_50_code (6 : Nat) (Option.none : Option Jvm.ClassFile.FieldType)) ∈ lw_all := lw_g (lw_at lw_m8 3 rfl) rfl
theorem q1771 : (Jvm.Cond.methodLink "TideKeepModel" (373 : Nat) ({ cls := "TideKeepModel", name := "does", desc := "([IIII)V" } : Jvm.MethodName)) ∈ lw_all := lw_g (lw_at lw_m8 4 rfl) rfl
theorem q1772 : (Jvm.Cond.privateMethod ({ cls := "TideKeepModel", name := "does", desc := "([IIII)V" } : Jvm.MethodName)) ∈ lw_tbl := lw_at lw_m8 5 rfl
theorem q1773 : (Jvm.Cond.instanceMethod ({ cls := "TideKeepModel", name := "does", desc := "([IIII)V" } : Jvm.MethodName)) ∈ lw_all := lw_g (lw_at lw_m8 6 rfl) rfl
theorem q1774 : (Jvm.Cond.code ({ cls := "TideKeepModel", name := "does", desc := "([IIII)V" } : Jvm.MethodName) prog_16_method_49_code (5 : Nat) (Option.none : Option Jvm.ClassFile.FieldType)) ∈ lw_all := lw_g (lw_at lw_m8 7 rfl) rfl
theorem q1775 : (Jvm.Cond.methodLink "TideKeepModel" (366 : Nat) ({ cls := "TideKeepModel", name := "unitGoes", desc := "([III)V" } : Jvm.MethodName)) ∈ lw_all := lw_g (lw_at lw_m8 8 rfl) rfl
theorem q1776 : (Jvm.Cond.privateMethod ({ cls := "TideKeepModel", name := "unitGoes", desc := "([III)V" } : Jvm.MethodName)) ∈ lw_tbl := lw_at lw_m8 9 rfl
theorem q1777 : (Jvm.Cond.instanceMethod ({ cls := "TideKeepModel", name := "unitGoes", desc := "([III)V" } : Jvm.MethodName)) ∈ lw_all := lw_g (lw_at lw_m8 10 rfl) rfl
theorem q1778 : (Jvm.Cond.code ({ cls := "TideKeepModel", name := "unitGoes", desc := "([III)V" } : Jvm.MethodName) prog_16_method_48_code (4 : Nat) (Option.none : Option Jvm.ClassFile.FieldType)) ∈ lw_all := lw_g (lw_at lw_m8 11 rfl) rfl
theorem q1779 : (Jvm.Cond.methodLink "TideKeepModel" (370 : Nat) ({ cls := "java/lang/Math", name := "min", desc := "(II)I" } : Jvm.MethodName)) ∈ lw_all := lw_g (lw_at lw_m8 12 rfl) rfl
theorem q1780 : (Jvm.Cond.methodLink "TideKeepModel" (414 : Nat) ({ cls := "TideKeepModel", name := "finish", desc := "([I)V" } : Jvm.MethodName)) ∈ lw_all := lw_g (lw_at lw_m8 13 rfl) rfl
theorem q1781 : (Jvm.Cond.privateMethod ({ cls := "TideKeepModel", name := "finish", desc := "([I)V" } : Jvm.MethodName)) ∈ lw_tbl := lw_at lw_m8 14 rfl
theorem q1782 : (Jvm.Cond.instanceMethod ({ cls := "TideKeepModel", name := "finish", desc := "([I)V" } : Jvm.MethodName)) ∈ lw_all := lw_g (lw_at lw_m8 15 rfl) rfl
theorem q1783 : (Jvm.Cond.code ({ cls := "TideKeepModel", name := "finish", desc := "([I)V" } : Jvm.MethodName) prog_16_method_58_code (2 : Nat) (Option.none : Option Jvm.ClassFile.FieldType)) ∈ lw_all := lw_g (lw_at lw_m8 16 rfl) rfl
theorem q1784 : (Jvm.Cond.methodLink "TideKeepModel" (398 : Nat) ({ cls := "TideKeepModel", name := "seaComes", desc := "([I)V" } : Jvm.MethodName)) ∈ lw_all := lw_g (lw_at lw_m8 17 rfl) rfl
theorem q1785 : (Jvm.Cond.privateMethod ({ cls := "TideKeepModel", name := "seaComes", desc := "([I)V" } : Jvm.MethodName)) ∈ lw_tbl := lw_at lw_m8 18 rfl
theorem q1786 : (Jvm.Cond.instanceMethod ({ cls := "TideKeepModel", name := "seaComes", desc := "([I)V" } : Jvm.MethodName)) ∈ lw_all := lw_g (lw_at lw_m8 19 rfl) rfl
theorem q1787 : (Jvm.Cond.code ({ cls := "TideKeepModel", name := "seaComes", desc := "([I)V" } : Jvm.MethodName) prog_16_method_53_code (4 : Nat) (Option.none : Option Jvm.ClassFile.FieldType)) ∈ lw_all := lw_g (lw_at lw_m8 20 rfl) rfl
theorem q1788 : (Jvm.Cond.methodLink "TideKeepModel" (385 : Nat) ({ cls := "TideKeepModel", name := "waveComes", desc := "([III)V" } : Jvm.MethodName)) ∈ lw_all := lw_g (lw_at lw_m8 21 rfl) rfl
theorem q1789 : (Jvm.Cond.privateMethod ({ cls := "TideKeepModel", name := "waveComes", desc := "([III)V" } : Jvm.MethodName)) ∈ lw_tbl := lw_at lw_m8 22 rfl
theorem q1790 : (Jvm.Cond.instanceMethod ({ cls := "TideKeepModel", name := "waveComes", desc := "([III)V" } : Jvm.MethodName)) ∈ lw_all := lw_g (lw_at lw_m8 23 rfl) rfl
theorem q1791 : (Jvm.Cond.code ({ cls := "TideKeepModel", name := "waveComes", desc := "([III)V" } : Jvm.MethodName) prog_16_method_51_code (8 : Nat) (Option.none : Option Jvm.ClassFile.FieldType)) ∈ lw_all := lw_g (lw_at lw_m8 24 rfl) rfl
theorem q1792 : (Jvm.Cond.methodLink "TideKeepModel" (388 : Nat) ({ cls := "TideKeepModel", name := "draw", desc := "([II)I" } : Jvm.MethodName)) ∈ lw_all := lw_g (lw_at lw_m8 25 rfl) rfl
theorem q1793 : (Jvm.Cond.static ({ cls := "TideKeepModel", name := "draw", desc := "([II)I" } : Jvm.MethodName)) ∈ lw_all := lw_g (lw_at lw_m8 26 rfl) rfl
theorem q1794 : (Jvm.Cond.code ({ cls := "TideKeepModel", name := "draw", desc := "([II)I" } : Jvm.MethodName) prog_16_method_52_code (4 : Nat) (Option.some Jvm.ClassFile.FieldType.int)) ∈ lw_all := lw_g (lw_at lw_m8 27 rfl) rfl
theorem q1795 : (Jvm.Cond.constantLong "TideKeepModel" (377 : Nat) (1103515245 : Int64)) ∈ lw_all := lw_g (lw_at lw_m8 28 rfl) rfl
theorem q1796 : (Jvm.Cond.constantLong "TideKeepModel" (379 : Nat) (12345 : Int64)) ∈ lw_all := lw_g (lw_at lw_m8 29 rfl) rfl
theorem q1797 : (Jvm.Cond.constantLong "TideKeepModel" (381 : Nat) (2147483648 : Int64)) ∈ lw_all := lw_g (lw_at lw_m8 30 rfl) rfl
theorem q1798 : (Jvm.Cond.constantLong "TideKeepModel" (383 : Nat) (65536 : Int64)) ∈ lw_all := lw_g (lw_at lw_m8 31 rfl) rfl
theorem q1799 : (Jvm.Cond.methodLink "TideKeepModel" (402 : Nat) ({ cls := "TideKeepModel", name := "sun", desc := "([I)V" } : Jvm.MethodName)) ∈ lw_all := lw_g (lw_at lw_m8 32 rfl) rfl
theorem q1800 : (Jvm.Cond.privateMethod ({ cls := "TideKeepModel", name := "sun", desc := "([I)V" } : Jvm.MethodName)) ∈ lw_tbl := lw_at lw_m8 33 rfl
theorem q1801 : (Jvm.Cond.instanceMethod ({ cls := "TideKeepModel", name := "sun", desc := "([I)V" } : Jvm.MethodName)) ∈ lw_all := lw_g (lw_at lw_m8 34 rfl) rfl
theorem q1802 : (Jvm.Cond.code ({ cls := "TideKeepModel", name := "sun", desc := "([I)V" } : Jvm.MethodName) prog_16_method_54_code (3 : Nat) (Option.none : Option Jvm.ClassFile.FieldType)) ∈ lw_all := lw_g (lw_at lw_m8 35 rfl) rfl
theorem q1803 : (Jvm.Cond.methodLink "TideKeepModel" (359 : Nat) ({ cls := "java/lang/Math", name := "max", desc := "(II)I" } : Jvm.MethodName)) ∈ lw_all := lw_g (lw_at lw_m8 36 rfl) rfl
theorem q1804 : (Jvm.Cond.methodLink "TideKeepModel" (405 : Nat) ({ cls := "TideKeepModel", name := "slides", desc := "([I)V" } : Jvm.MethodName)) ∈ lw_all := lw_g (lw_at lw_m8 37 rfl) rfl
theorem q1805 : (Jvm.Cond.privateMethod ({ cls := "TideKeepModel", name := "slides", desc := "([I)V" } : Jvm.MethodName)) ∈ lw_tbl := lw_at lw_m8 38 rfl
theorem q1806 : (Jvm.Cond.instanceMethod ({ cls := "TideKeepModel", name := "slides", desc := "([I)V" } : Jvm.MethodName)) ∈ lw_all := lw_g (lw_at lw_m8 39 rfl) rfl
theorem q1807 : (Jvm.Cond.code ({ cls := "TideKeepModel", name := "slides", desc := "([I)V" } : Jvm.MethodName) prog_16_method_56_code (7 : Nat) (Option.none : Option Jvm.ClassFile.FieldType)) ∈ lw_all := lw_g (lw_at lw_m8 40 rfl) rfl
theorem q1808 : (Jvm.Cond.methodLink "TideKeepModel" (392 : Nat) ({ cls := "TideKeepModel", name := "lowestBeside", desc := "([II)I" } : Jvm.MethodName)) ∈ lw_all := lw_g (lw_at lw_m8 41 rfl) rfl
theorem q1809 : (Jvm.Cond.privateMethod ({ cls := "TideKeepModel", name := "lowestBeside", desc := "([II)I" } : Jvm.MethodName)) ∈ lw_tbl := lw_at lw_m8 42 rfl
theorem q1810 : (Jvm.Cond.instanceMethod ({ cls := "TideKeepModel", name := "lowestBeside", desc := "([II)I" } : Jvm.MethodName)) ∈ lw_all := lw_g (lw_at lw_m8 43 rfl) rfl
theorem q1811 : (Jvm.Cond.code ({ cls := "TideKeepModel", name := "lowestBeside", desc := "([II)I" } : Jvm.MethodName) prog_16_method_55_code (7 : Nat) (Option.some Jvm.ClassFile.FieldType.int)) ∈ lw_all := lw_g (lw_at lw_m8 44 rfl) rfl
theorem q1812 : (Jvm.Cond.methodLink "TideKeepModel" (395 : Nat) ({ cls := "TideKeepModel", name := "holdsOf", desc := "(II)I" } : Jvm.MethodName)) ∈ lw_all := lw_g (lw_at lw_m8 45 rfl) rfl
theorem q1813 : (Jvm.Cond.privateMethod ({ cls := "TideKeepModel", name := "holdsOf", desc := "(II)I" } : Jvm.MethodName)) ∈ lw_tbl := lw_at lw_m8 46 rfl
theorem q1814 : (Jvm.Cond.instanceMethod ({ cls := "TideKeepModel", name := "holdsOf", desc := "(II)I" } : Jvm.MethodName)) ∈ lw_all := lw_g (lw_at lw_m8 47 rfl) rfl
theorem q1815 : (Jvm.Cond.code ({ cls := "TideKeepModel", name := "holdsOf", desc := "(II)I" } : Jvm.MethodName) prog_16_method_47_code (3 : Nat) (Option.some Jvm.ClassFile.FieldType.int)) ∈ lw_all := lw_g (lw_at lw_m8 48 rfl) rfl
theorem q1816 : (Jvm.Cond.methodLink "TideKeepModel" (363 : Nat) ({ cls := "TideKeepModel", name := "strength", desc := "(I)I" } : Jvm.MethodName)) ∈ lw_all := lw_g (lw_at lw_m8 49 rfl) rfl
theorem q1817 : (Jvm.Cond.privateMethod ({ cls := "TideKeepModel", name := "strength", desc := "(I)I" } : Jvm.MethodName)) ∈ lw_tbl := lw_at lw_m8 50 rfl
theorem q1818 : (Jvm.Cond.instanceMethod ({ cls := "TideKeepModel", name := "strength", desc := "(I)I" } : Jvm.MethodName)) ∈ lw_all := lw_g (lw_at lw_m8 51 rfl) rfl
theorem q1819 : (Jvm.Cond.code ({ cls := "TideKeepModel", name := "strength", desc := "(I)I" } : Jvm.MethodName) prog_16_method_46_code (2 : Nat) (Option.some Jvm.ClassFile.FieldType.int)) ∈ lw_all := lw_g (lw_at lw_m8 52 rfl) rfl
theorem q1820 : (Jvm.Cond.methodLink "TideKeepModel" (354 : Nat) ({ cls := "java/lang/Math", name := "abs", desc := "(I)I" } : Jvm.MethodName)) ∈ lw_all := lw_g (lw_at lw_m8 53 rfl) rfl
theorem q1821 : (Jvm.Cond.methodLink "TideKeepModel" (408 : Nat) ({ cls := "TideKeepModel", name := "flagsFall", desc := "([I)V" } : Jvm.MethodName)) ∈ lw_all := lw_g (lw_at lw_m8 54 rfl) rfl
theorem q1822 : (Jvm.Cond.privateMethod ({ cls := "TideKeepModel", name := "flagsFall", desc := "([I)V" } : Jvm.MethodName)) ∈ lw_tbl := lw_at lw_m8 55 rfl
theorem q1823 : (Jvm.Cond.instanceMethod ({ cls := "TideKeepModel", name := "flagsFall", desc := "([I)V" } : Jvm.MethodName)) ∈ lw_all := lw_g (lw_at lw_m8 56 rfl) rfl
theorem q1824 : (Jvm.Cond.code ({ cls := "TideKeepModel", name := "flagsFall", desc := "([I)V" } : Jvm.MethodName) prog_16_method_57_code (3 : Nat) (Option.none : Option Jvm.ClassFile.FieldType)) ∈ lw_all := lw_g (lw_at lw_m8 57 rfl) rfl
theorem q1826 : (Jvm.Cond.instanceMethod ({ cls := "TideKeepModel", name := "cell", desc := "(III)I" } : Jvm.MethodName)) ∈ lw_all := lw_g (lw_at lw_m8 59 rfl) rfl
theorem q1827 : (Jvm.Cond.selects "TideKeepModel" ({ cls := "TideKeepModel", name := "cell", desc := "(III)I" } : Jvm.MethodName) ({ cls := "TideKeepModel", name := "cell", desc := "(III)I" } : Jvm.MethodName)) ∈ lw_all := lw_g (lw_at lw_m8 60 rfl) rfl
theorem q1828 : (Jvm.Cond.code ({ cls := "TideKeepModel", name := "cell", desc := "(III)I" } : Jvm.MethodName) prog_16_method_64_code (5 : Nat) (Option.some Jvm.ClassFile.FieldType.int)) ∈ lw_all := lw_g (lw_at lw_m8 61 rfl) rfl
theorem q1829 : (Jvm.Cond.constantLong "TideKeepModel" (425 : Nat) (4 : Int64)) ∈ lw_all := lw_g (lw_at lw_m8 62 rfl) rfl
theorem q1831 : (Jvm.Cond.instanceMethod ({ cls := "TideKeepModel", name := "flag", desc := "(II)I" } : Jvm.MethodName)) ∈ lw_all := lw_g (lw_at lw_m8 64 rfl) rfl
theorem q1832 : (Jvm.Cond.selects "TideKeepModel" ({ cls := "TideKeepModel", name := "flag", desc := "(II)I" } : Jvm.MethodName) ({ cls := "TideKeepModel", name := "flag", desc := "(II)I" } : Jvm.MethodName)) ∈ lw_all := lw_g (lw_at lw_m8 65 rfl) rfl
theorem q1833 : (Jvm.Cond.code ({ cls := "TideKeepModel", name := "flag", desc := "(II)I" } : Jvm.MethodName) prog_16_method_66_code (3 : Nat) (Option.some Jvm.ClassFile.FieldType.int)) ∈ lw_all := lw_g (lw_at lw_m8 66 rfl) rfl
theorem q1834 : (Jvm.Cond.methodLink "TideKeepModel" (427 : Nat) ({ cls := "TideKeepModel", name := "isFlag", desc := "(I)Z" } : Jvm.MethodName)) ∈ lw_all := lw_g (lw_at lw_m8 67 rfl) rfl
theorem q1835 : (Jvm.Cond.privateMethod ({ cls := "TideKeepModel", name := "isFlag", desc := "(I)Z" } : Jvm.MethodName)) ∈ lw_tbl := lw_at lw_m8 68 rfl
theorem q1836 : (Jvm.Cond.instanceMethod ({ cls := "TideKeepModel", name := "isFlag", desc := "(I)Z" } : Jvm.MethodName)) ∈ lw_all := lw_g (lw_at lw_m8 69 rfl) rfl
theorem q1837 : (Jvm.Cond.code ({ cls := "TideKeepModel", name := "isFlag", desc := "(I)Z" } : Jvm.MethodName) prog_16_method_65_code (2 : Nat) (Option.some Jvm.ClassFile.FieldType.boolean)) ∈ lw_all := lw_g (lw_at lw_m8 70 rfl) rfl
theorem q1838 : (Jvm.Cond.constantLong "TideKeepModel" (430 : Nat) (3 : Int64)) ∈ lw_all := lw_g (lw_at lw_m8 71 rfl) rfl
theorem q1840 : (Jvm.Cond.instanceMethod ({ cls := "TideKeepModel", name := "sum", desc := "(I)I" } : Jvm.MethodName)) ∈ lw_all := lw_g (lw_at lw_m8 73 rfl) rfl
theorem q1841 : (Jvm.Cond.selects "TideKeepModel" ({ cls := "TideKeepModel", name := "sum", desc := "(I)I" } : Jvm.MethodName) ({ cls := "TideKeepModel", name := "sum", desc := "(I)I" } : Jvm.MethodName)) ∈ lw_all := lw_g (lw_at lw_m8 74 rfl) rfl
theorem q1842 : (Jvm.Cond.code ({ cls := "TideKeepModel", name := "sum", desc := "(I)I" } : Jvm.MethodName) prog_16_method_67_code (4 : Nat) (Option.some Jvm.ClassFile.FieldType.int)) ∈ lw_all := lw_g (lw_at lw_m8 75 rfl) rfl
theorem q1844 : (Jvm.Cond.instanceMethod ({ cls := "TideKeepModel", name := "keep", desc := "(I)I" } : Jvm.MethodName)) ∈ lw_all := lw_g (lw_at lw_m8 77 rfl) rfl
theorem q1845 : (Jvm.Cond.selects "TideKeepModel" ({ cls := "TideKeepModel", name := "keep", desc := "(I)I" } : Jvm.MethodName) ({ cls := "TideKeepModel", name := "keep", desc := "(I)I" } : Jvm.MethodName)) ∈ lw_all := lw_g (lw_at lw_m8 78 rfl) rfl
theorem q1846 : (Jvm.Cond.code ({ cls := "TideKeepModel", name := "keep", desc := "(I)I" } : Jvm.MethodName) prog_16_method_69_code (3 : Nat) (Option.some Jvm.ClassFile.FieldType.int)) ∈ lw_all := lw_g (lw_at lw_m8 79 rfl) rfl
theorem q1847 : (Jvm.Cond.methodLink "TideKeepModel" (432 : Nat) ({ cls := "TideKeepModel", name := "isSlot", desc := "(I)Z" } : Jvm.MethodName)) ∈ lw_all := lw_g (lw_at lw_m8 80 rfl) rfl
theorem q1848 : (Jvm.Cond.static ({ cls := "TideKeepModel", name := "isSlot", desc := "(I)Z" } : Jvm.MethodName)) ∈ lw_all := lw_g (lw_at lw_m8 81 rfl) rfl
theorem q1849 : (Jvm.Cond.code ({ cls := "TideKeepModel", name := "isSlot", desc := "(I)Z" } : Jvm.MethodName) prog_16_method_68_code (1 : Nat) (Option.some Jvm.ClassFile.FieldType.boolean)) ∈ lw_all := lw_g (lw_at lw_m8 82 rfl) rfl
theorem q1851 : (Jvm.Cond.instanceMethod ({ cls := "TideKeepModel", name := "take", desc := "(I)I" } : Jvm.MethodName)) ∈ lw_all := lw_g (lw_at lw_m8 84 rfl) rfl
theorem q1852 : (Jvm.Cond.selects "TideKeepModel" ({ cls := "TideKeepModel", name := "take", desc := "(I)I" } : Jvm.MethodName) ({ cls := "TideKeepModel", name := "take", desc := "(I)I" } : Jvm.MethodName)) ∈ lw_all := lw_g (lw_at lw_m8 85 rfl) rfl
theorem q1853 : (Jvm.Cond.code ({ cls := "TideKeepModel", name := "take", desc := "(I)I" } : Jvm.MethodName) prog_16_method_70_code (3 : Nat) (Option.some Jvm.ClassFile.FieldType.int)) ∈ lw_all := lw_g (lw_at lw_m8 86 rfl) rfl
theorem q1855 : (Jvm.Cond.instanceMethod ({ cls := "TideKeepModel", name := "holds", desc := "(II)I" } : Jvm.MethodName)) ∈ lw_all := lw_g (lw_at lw_m8 88 rfl) rfl
theorem q1856 : (Jvm.Cond.selects "TideKeepModel" ({ cls := "TideKeepModel", name := "holds", desc := "(II)I" } : Jvm.MethodName) ({ cls := "TideKeepModel", name := "holds", desc := "(II)I" } : Jvm.MethodName)) ∈ lw_all := lw_g (lw_at lw_m8 89 rfl) rfl
theorem q1857 : (Jvm.Cond.code ({ cls := "TideKeepModel", name := "holds", desc := "(II)I" } : Jvm.MethodName) prog_16_method_72_code (3 : Nat) (Option.some Jvm.ClassFile.FieldType.int)) ∈ lw_all := lw_g (lw_at lw_m8 90 rfl) rfl
theorem q1858 : (Jvm.Cond.methodLink "TideKeepModel" (435 : Nat) ({ cls := "TideKeepModel", name := "isSand", desc := "(II)Z" } : Jvm.MethodName)) ∈ lw_all := lw_g (lw_at lw_m8 91 rfl) rfl
theorem q1859 : (Jvm.Cond.static ({ cls := "TideKeepModel", name := "isSand", desc := "(II)Z" } : Jvm.MethodName)) ∈ lw_all := lw_g (lw_at lw_m8 92 rfl) rfl
theorem q1860 : (Jvm.Cond.code ({ cls := "TideKeepModel", name := "isSand", desc := "(II)Z" } : Jvm.MethodName) prog_16_method_71_code (2 : Nat) (Option.some Jvm.ClassFile.FieldType.boolean)) ∈ lw_all := lw_g (lw_at lw_m8 93 rfl) rfl
theorem q1862 : (Jvm.Cond.instanceMethod ({ cls := "TideKeepModel", name := "high", desc := "(III)I" } : Jvm.MethodName)) ∈ lw_all := lw_g (lw_at lw_m8 95 rfl) rfl
theorem q1863 : (Jvm.Cond.selects "TideKeepModel" ({ cls := "TideKeepModel", name := "high", desc := "(III)I" } : Jvm.MethodName) ({ cls := "TideKeepModel", name := "high", desc := "(III)I" } : Jvm.MethodName)) ∈ lw_all := lw_g (lw_at lw_m8 96 rfl) rfl
theorem q1864 : (Jvm.Cond.code ({ cls := "TideKeepModel", name := "high", desc := "(III)I" } : Jvm.MethodName) prog_16_method_73_code (4 : Nat) (Option.some Jvm.ClassFile.FieldType.int)) ∈ lw_all := lw_g (lw_at lw_m8 97 rfl) rfl
theorem q1865 : (Jvm.Cond.constantLong "TideKeepModel" (438 : Nat) (40 : Int64)) ∈ lw_all := lw_g (lw_at lw_m8 98 rfl) rfl
theorem q1867 : (Jvm.Cond.instanceMethod ({ cls := "TideKeepModel", name := "spill", desc := "(IIII)I" } : Jvm.MethodName)) ∈ lw_all := lw_g (lw_at lw_m8 100 rfl) rfl
theorem q1868 : (Jvm.Cond.selects "TideKeepModel" ({ cls := "TideKeepModel", name := "spill", desc := "(IIII)I" } : Jvm.MethodName) ({ cls := "TideKeepModel", name := "spill", desc := "(IIII)I" } : Jvm.MethodName)) ∈ lw_all := lw_g (lw_at lw_m8 101 rfl) rfl
theorem q1869 : (Jvm.Cond.code ({ cls := "TideKeepModel", name := "spill", desc := "(IIII)I" } : Jvm.MethodName) prog_16_method_74_code (9 : Nat) (Option.some Jvm.ClassFile.FieldType.int)) ∈ lw_all := lw_g (lw_at lw_m8 102 rfl) rfl
theorem q1870 : (Jvm.Cond.constantLong "TideKeepModel" (440 : Nat) (60 : Int64)) ∈ lw_all := lw_g (lw_at lw_m8 103 rfl) rfl
theorem q1871 : (Jvm.Cond.constantLong "TideKeepModel" (442 : Nat) (8 : Int64)) ∈ lw_all := lw_g (lw_at lw_m8 104 rfl) rfl
theorem q1873 : (Jvm.Cond.instanceMethod ({ cls := "TideKeepModel", name := "trial", desc := "(IIII)I" } : Jvm.MethodName)) ∈ lw_all := lw_g (lw_at lw_m8 106 rfl) rfl
theorem q1874 : (Jvm.Cond.selects "TideKeepModel" ({ cls := "TideKeepModel", name := "trial", desc := "(IIII)I" } : Jvm.MethodName) ({ cls := "TideKeepModel", name := "trial", desc := "(IIII)I" } : Jvm.MethodName)) ∈ lw_all := lw_g (lw_at lw_m8 107 rfl) rfl
theorem q1875 : (Jvm.Cond.code ({ cls := "TideKeepModel", name := "trial", desc := "(IIII)I" } : Jvm.MethodName) prog_16_method_76_code (5 : Nat) (Option.some Jvm.ClassFile.FieldType.int)) ∈ lw_all := lw_g (lw_at lw_m8 108 rfl) rfl
theorem q1876 : (Jvm.Cond.methodLink "TideKeepModel" (449 : Nat) ({ cls := "TideKeepModel", name := "isTelling", desc := "(I)Z" } : Jvm.MethodName)) ∈ lw_all := lw_g (lw_at lw_m8 109 rfl) rfl
theorem q1877 : (Jvm.Cond.privateMethod ({ cls := "TideKeepModel", name := "isTelling", desc := "(I)Z" } : Jvm.MethodName)) ∈ lw_tbl := lw_at lw_m8 110 rfl
theorem q1878 : (Jvm.Cond.instanceMethod ({ cls := "TideKeepModel", name := "isTelling", desc := "(I)Z" } : Jvm.MethodName)) ∈ lw_all := lw_g (lw_at lw_m8 111 rfl) rfl
theorem q1879 : (Jvm.Cond.code ({ cls := "TideKeepModel", name := "isTelling", desc := "(I)Z" } : Jvm.MethodName) prog_16_method_75_code (2 : Nat) (Option.some Jvm.ClassFile.FieldType.boolean)) ∈ lw_all := lw_g (lw_at lw_m8 112 rfl) rfl
theorem q1880 : (Jvm.Cond.constantLong "TideKeepModel" (447 : Nat) (999 : Int64)) ∈ lw_all := lw_g (lw_at lw_m8 113 rfl) rfl
theorem q1881 : (Jvm.Cond.constantLong "TideKeepModel" (452 : Nat) (15 : Int64)) ∈ lw_all := lw_g (lw_at lw_m8 114 rfl) rfl
theorem q1882 : (Jvm.Cond.constantLong "TideKeepModel" (454 : Nat) (30 : Int64)) ∈ lw_all := lw_g (lw_at lw_m8 115 rfl) rfl
theorem q1884 : (Jvm.Cond.instanceMethod ({ cls := "TideKeepModel", name := "right", desc := "(III)I" } : Jvm.MethodName)) ∈ lw_all := lw_g (lw_at lw_m8 117 rfl) rfl
theorem q1885 : (Jvm.Cond.selects "TideKeepModel" ({ cls := "TideKeepModel", name := "right", desc := "(III)I" } : Jvm.MethodName) ({ cls := "TideKeepModel", name := "right", desc := "(III)I" } : Jvm.MethodName)) ∈ lw_all := lw_g (lw_at lw_m8 118 rfl) rfl
theorem q1886 : (Jvm.Cond.code ({ cls := "TideKeepModel", name := "right", desc := "(III)I" } : Jvm.MethodName) prog_16_method_77_code (6 : Nat) (Option.some Jvm.ClassFile.FieldType.int)) ∈ lw_all := lw_g (lw_at lw_m8 119 rfl) rfl
theorem q1888 : (Jvm.Cond.instanceMethod ({ cls := "TideKeepModel", name := "humps", desc := "(II)I" } : Jvm.MethodName)) ∈ lw_all := lw_g (lw_at lw_m8 121 rfl) rfl
theorem q1889 : (Jvm.Cond.selects "TideKeepModel" ({ cls := "TideKeepModel", name := "humps", desc := "(II)I" } : Jvm.MethodName) ({ cls := "TideKeepModel", name := "humps", desc := "(II)I" } : Jvm.MethodName)) ∈ lw_all := lw_g (lw_at lw_m8 122 rfl) rfl
theorem q1890 : (Jvm.Cond.code ({ cls := "TideKeepModel", name := "humps", desc := "(II)I" } : Jvm.MethodName) prog_16_method_81_code (11 : Nat) (Option.some Jvm.ClassFile.FieldType.int)) ∈ lw_all := lw_g (lw_at lw_m8 123 rfl) rfl
theorem q1891 : (Jvm.Cond.methodLink "TideKeepModel" (469 : Nat) ({ cls := "TideKeepModel", name := "fits", desc := "(IIII)Z" } : Jvm.MethodName)) ∈ lw_all := lw_g (lw_at lw_m8 124 rfl) rfl
theorem q1892 : (Jvm.Cond.privateMethod ({ cls := "TideKeepModel", name := "fits", desc := "(IIII)Z" } : Jvm.MethodName)) ∈ lw_tbl := lw_at lw_m8 125 rfl
theorem q1893 : (Jvm.Cond.instanceMethod ({ cls := "TideKeepModel", name := "fits", desc := "(IIII)Z" } : Jvm.MethodName)) ∈ lw_all := lw_g (lw_at lw_m8 126 rfl) rfl
theorem q1894 : (Jvm.Cond.code ({ cls := "TideKeepModel", name := "fits", desc := "(IIII)Z" } : Jvm.MethodName) prog_16_method_80_code (6 : Nat) (Option.some Jvm.ClassFile.FieldType.boolean)) ∈ lw_all := lw_g (lw_at lw_m8 127 rfl) rfl
theorem q1895 : (Jvm.Cond.methodLink "TideKeepModel" (462 : Nat) ({ cls := "TideKeepModel", name := "stands", desc := "(IIIII)Z" } : Jvm.MethodName)) ∈ lw_all := lw_g (lw_at lw_m8 128 rfl) rfl
theorem q1896 : (Jvm.Cond.static ({ cls := "TideKeepModel", name := "stands", desc := "(IIIII)Z" } : Jvm.MethodName)) ∈ lw_all := lw_g (lw_at lw_m8 129 rfl) rfl
theorem q1897 : (Jvm.Cond.code ({ cls := "TideKeepModel", name := "stands", desc := "(IIIII)Z" } : Jvm.MethodName) prog_16_method_79_code (5 : Nat) (Option.some Jvm.ClassFile.FieldType.boolean)) ∈ lw_all := lw_g (lw_at lw_m8 130 rfl) rfl
theorem q1898 : (Jvm.Cond.methodLink "TideKeepModel" (466 : Nat) ({ cls := "TideKeepModel", name := "stoodBy", desc := "(II)I" } : Jvm.MethodName)) ∈ lw_all := lw_g (lw_at lw_m8 131 rfl) rfl
theorem q1899 : (Jvm.Cond.privateMethod ({ cls := "TideKeepModel", name := "stoodBy", desc := "(II)I" } : Jvm.MethodName)) ∈ lw_tbl := lw_at lw_m8 132 rfl
theorem q1900 : (Jvm.Cond.instanceMethod ({ cls := "TideKeepModel", name := "stoodBy", desc := "(II)I" } : Jvm.MethodName)) ∈ lw_all := lw_g (lw_at lw_m8 133 rfl) rfl
theorem q1901 : (Jvm.Cond.code ({ cls := "TideKeepModel", name := "stoodBy", desc := "(II)I" } : Jvm.MethodName) prog_16_method_78_code (5 : Nat) (Option.some Jvm.ClassFile.FieldType.int)) ∈ lw_all := lw_g (lw_at lw_m8 134 rfl) rfl
theorem q1903 : (Jvm.Cond.instanceMethod ({ cls := "TideKeepModel", name := "next", desc := "()I" } : Jvm.MethodName)) ∈ lw_all := lw_g (lw_at lw_m8 136 rfl) rfl
theorem q1904 : (Jvm.Cond.selects "TideKeepModel" ({ cls := "TideKeepModel", name := "next", desc := "()I" } : Jvm.MethodName) ({ cls := "TideKeepModel", name := "next", desc := "()I" } : Jvm.MethodName)) ∈ lw_all := lw_g (lw_at lw_m8 137 rfl) rfl
theorem q1905 : (Jvm.Cond.code ({ cls := "TideKeepModel", name := "next", desc := "()I" } : Jvm.MethodName) prog_16_method_82_code (7 : Nat) (Option.some Jvm.ClassFile.FieldType.int)) ∈ lw_all := lw_g (lw_at lw_m8 138 rfl) rfl
theorem q1907 : (Jvm.Cond.instanceMethod ({ cls := "TideKeepModel", name := "last", desc := "(IIII)I" } : Jvm.MethodName)) ∈ lw_all := lw_g (lw_at lw_m8 140 rfl) rfl
theorem q1908 : (Jvm.Cond.selects "TideKeepModel" ({ cls := "TideKeepModel", name := "last", desc := "(IIII)I" } : Jvm.MethodName) ({ cls := "TideKeepModel", name := "last", desc := "(IIII)I" } : Jvm.MethodName)) ∈ lw_all := lw_g (lw_at lw_m8 141 rfl) rfl
theorem q1909 : (Jvm.Cond.code ({ cls := "TideKeepModel", name := "last", desc := "(IIII)I" } : Jvm.MethodName) prog_16_method_86_code (6 : Nat) (Option.some Jvm.ClassFile.FieldType.int)) ∈ lw_all := lw_g (lw_at lw_m8 142 rfl) rfl
theorem q1910 : (Jvm.Cond.methodLink "TideKeepModel" (475 : Nat) ({ cls := "TideKeepModel", name := "areMinutes", desc := "(I)Z" } : Jvm.MethodName)) ∈ lw_all := lw_g (lw_at lw_m8 143 rfl) rfl
theorem q1911 : (Jvm.Cond.static ({ cls := "TideKeepModel", name := "areMinutes", desc := "(I)Z" } : Jvm.MethodName)) ∈ lw_all := lw_g (lw_at lw_m8 144 rfl) rfl
theorem q1912 : (Jvm.Cond.code ({ cls := "TideKeepModel", name := "areMinutes", desc := "(I)Z" } : Jvm.MethodName) prog_16_method_85_code (1 : Nat) (Option.some Jvm.ClassFile.FieldType.boolean)) ∈ lw_all := lw_g (lw_at lw_m8 145 rfl) rfl
theorem q1913 : (Jvm.Cond.constantLong "TideKeepModel" (473 : Nat) (99 : Int64)) ∈ lw_all := lw_g (lw_at lw_m8 146 rfl) rfl
theorem q1914 : (Jvm.Cond.methodLink "TideKeepModel" (478 : Nat) ({ cls := "TideKeepModel", name := "beginTrial", desc := "(II)V" } : Jvm.MethodName)) ∈ lw_all := lw_g (lw_at lw_m8 147 rfl) rfl
theorem q1915 : (Jvm.Cond.privateMethod ({ cls := "TideKeepModel", name := "beginTrial", desc := "(II)V" } : Jvm.MethodName)) ∈ lw_tbl := lw_at lw_m8 148 rfl
theorem q1916 : (Jvm.Cond.instanceMethod ({ cls := "TideKeepModel", name := "beginTrial", desc := "(II)V" } : Jvm.MethodName)) ∈ lw_all := lw_g (lw_at lw_m8 149 rfl) rfl
theorem q1917 : (Jvm.Cond.code ({ cls := "TideKeepModel", name := "beginTrial", desc := "(II)V" } : Jvm.MethodName) prog_16_method_83_code (4 : Nat) (Option.none : Option Jvm.ClassFile.FieldType)) ∈ lw_all := lw_g (lw_at lw_m8 150 rfl) rfl
theorem q1918 : (Jvm.Cond.methodLink "TideKeepModel" (482 : Nat) ({ cls := "TideKeepModel", name := "lastOf", desc := "(II)I" } : Jvm.MethodName)) ∈ lw_all := lw_g (lw_at lw_m8 151 rfl) rfl
theorem q1919 : (Jvm.Cond.privateMethod ({ cls := "TideKeepModel", name := "lastOf", desc := "(II)I" } : Jvm.MethodName)) ∈ lw_tbl := lw_at lw_m8 152 rfl
theorem q1920 : (Jvm.Cond.instanceMethod ({ cls := "TideKeepModel", name := "lastOf", desc := "(II)I" } : Jvm.MethodName)) ∈ lw_all := lw_g (lw_at lw_m8 153 rfl) rfl
theorem q1921 : (Jvm.Cond.code ({ cls := "TideKeepModel", name := "lastOf", desc := "(II)I" } : Jvm.MethodName) prog_16_method_84_code (3 : Nat) (Option.some Jvm.ClassFile.FieldType.int)) ∈ lw_all := lw_g (lw_at lw_m8 154 rfl) rfl
theorem q1923 : (Jvm.Cond.instanceMethod ({ cls := "TideKeepModel", name := "pail", desc := "(III)I" } : Jvm.MethodName)) ∈ lw_all := lw_g (lw_at lw_m8 156 rfl) rfl
theorem q1924 : (Jvm.Cond.selects "TideKeepModel" ({ cls := "TideKeepModel", name := "pail", desc := "(III)I" } : Jvm.MethodName) ({ cls := "TideKeepModel", name := "pail", desc := "(III)I" } : Jvm.MethodName)) ∈ lw_all := lw_g (lw_at lw_m8 157 rfl) rfl
theorem q1925 : (Jvm.Cond.code ({ cls := "TideKeepModel", name := "pail", desc := "(III)I" } : Jvm.MethodName) prog_16_method_91_code (4 : Nat) (Option.some Jvm.ClassFile.FieldType.int)) ∈ lw_all := lw_g (lw_at lw_m8 158 rfl) rfl
theorem q1926 : (Jvm.Cond.methodLink "TideKeepModel" (492 : Nat) ({ cls := "TideKeepModel", name := "isAsked", desc := "(III)Z" } : Jvm.MethodName)) ∈ lw_all := lw_g (lw_at lw_m8 159 rfl) rfl
theorem q1927 : (Jvm.Cond.privateMethod ({ cls := "TideKeepModel", name := "isAsked", desc := "(III)Z" } : Jvm.MethodName)) ∈ lw_tbl := lw_at lw_m8 160 rfl
theorem q1928 : (Jvm.Cond.instanceMethod ({ cls := "TideKeepModel", name := "isAsked", desc := "(III)Z" } : Jvm.MethodName)) ∈ lw_all := lw_g (lw_at lw_m8 161 rfl) rfl
theorem q1929 : (Jvm.Cond.code ({ cls := "TideKeepModel", name := "isAsked", desc := "(III)Z" } : Jvm.MethodName) prog_16_method_90_code (4 : Nat) (Option.some Jvm.ClassFile.FieldType.boolean)) ∈ lw_all := lw_g (lw_at lw_m8 162 rfl) rfl
theorem q1930 : (Jvm.Cond.methodLink "TideKeepModel" (495 : Nat) ({ cls := "TideKeepModel", name := "bestRow", desc := "(IIII)I" } : Jvm.MethodName)) ∈ lw_all := lw_g (lw_at lw_m8 163 rfl) rfl
theorem q1931 : (Jvm.Cond.privateMethod ({ cls := "TideKeepModel", name := "bestRow", desc := "(IIII)I" } : Jvm.MethodName)) ∈ lw_tbl := lw_at lw_m8 164 rfl
theorem q1932 : (Jvm.Cond.instanceMethod ({ cls := "TideKeepModel", name := "bestRow", desc := "(IIII)I" } : Jvm.MethodName)) ∈ lw_all := lw_g (lw_at lw_m8 165 rfl) rfl
theorem q1933 : (Jvm.Cond.code ({ cls := "TideKeepModel", name := "bestRow", desc := "(IIII)I" } : Jvm.MethodName) prog_16_method_89_code (9 : Nat) (Option.some Jvm.ClassFile.FieldType.int)) ∈ lw_all := lw_g (lw_at lw_m8 166 rfl) rfl
theorem q1934 : (Jvm.Cond.methodLink "TideKeepModel" (488 : Nat) ({ cls := "TideKeepModel", name := "lastByRow", desc := "(IIIII)I" } : Jvm.MethodName)) ∈ lw_all := lw_g (lw_at lw_m8 167 rfl) rfl
theorem q1935 : (Jvm.Cond.privateMethod ({ cls := "TideKeepModel", name := "lastByRow", desc := "(IIIII)I" } : Jvm.MethodName)) ∈ lw_tbl := lw_at lw_m8 168 rfl
theorem q1936 : (Jvm.Cond.instanceMethod ({ cls := "TideKeepModel", name := "lastByRow", desc := "(IIIII)I" } : Jvm.MethodName)) ∈ lw_all := lw_g (lw_at lw_m8 169 rfl) rfl
theorem q1937 : (Jvm.Cond.code ({ cls := "TideKeepModel", name := "lastByRow", desc := "(IIIII)I" } : Jvm.MethodName) prog_16_method_88_code (7 : Nat) (Option.some Jvm.ClassFile.FieldType.int)) ∈ lw_all := lw_g (lw_at lw_m8 170 rfl) rfl
theorem q1938 : (Jvm.Cond.methodLink "TideKeepModel" (485 : Nat) ({ cls := "TideKeepModel", name := "works", desc := "(II)V" } : Jvm.MethodName)) ∈ lw_all := lw_g (lw_at lw_m8 171 rfl) rfl
theorem q1939 : (Jvm.Cond.privateMethod ({ cls := "TideKeepModel", name := "works", desc := "(II)V" } : Jvm.MethodName)) ∈ lw_tbl := lw_at lw_m8 172 rfl
theorem q1940 : (Jvm.Cond.instanceMethod ({ cls := "TideKeepModel", name := "works", desc := "(II)V" } : Jvm.MethodName)) ∈ lw_all := lw_g (lw_at lw_m8 173 rfl) rfl
theorem q1941 : (Jvm.Cond.code ({ cls := "TideKeepModel", name := "works", desc := "(II)V" } : Jvm.MethodName) prog_16_method_87_code (6 : Nat) (Option.none : Option Jvm.ClassFile.FieldType)) ∈ lw_all := lw_g (lw_at lw_m8 174 rfl) rfl
theorem q1943 : (Jvm.Cond.instanceMethod ({ cls := "TideKeepModel", name := "row", desc := "(IIII)I" } : Jvm.MethodName)) ∈ lw_all := lw_g (lw_at lw_m8 176 rfl) rfl
theorem q1944 : (Jvm.Cond.selects "TideKeepModel" ({ cls := "TideKeepModel", name := "row", desc := "(IIII)I" } : Jvm.MethodName) ({ cls := "TideKeepModel", name := "row", desc := "(IIII)I" } : Jvm.MethodName)) ∈ lw_all := lw_g (lw_at lw_m8 177 rfl) rfl
theorem q1945 : (Jvm.Cond.code ({ cls := "TideKeepModel", name := "row", desc := "(IIII)I" } : Jvm.MethodName) prog_16_method_92_code (5 : Nat) (Option.some Jvm.ClassFile.FieldType.int)) ∈ lw_all := lw_g (lw_at lw_m8 178 rfl) rfl
theorem q1947 : (Jvm.Cond.instanceMethod ({ cls := "TideKeepModel", name := "again", desc := "(III)I" } : Jvm.MethodName)) ∈ lw_all := lw_g (lw_at lw_m8 180 rfl) rfl
theorem q1948 : (Jvm.Cond.selects "TideKeepModel" ({ cls := "TideKeepModel", name := "again", desc := "(III)I" } : Jvm.MethodName) ({ cls := "TideKeepModel", name := "again", desc := "(III)I" } : Jvm.MethodName)) ∈ lw_all := lw_g (lw_at lw_m8 181 rfl) rfl
theorem q1949 : (Jvm.Cond.code ({ cls := "TideKeepModel", name := "again", desc := "(III)I" } : Jvm.MethodName) prog_16_method_94_code (8 : Nat) (Option.some Jvm.ClassFile.FieldType.int)) ∈ lw_all := lw_g (lw_at lw_m8 182 rfl) rfl
theorem q1950 : (Jvm.Cond.methodLink "TideKeepModel" (499 : Nat) ({ cls := "TideKeepModel", name := "lastByWet", desc := "(IIII)I" } : Jvm.MethodName)) ∈ lw_all := lw_g (lw_at lw_m8 183 rfl) rfl
theorem q1951 : (Jvm.Cond.privateMethod ({ cls := "TideKeepModel", name := "lastByWet", desc := "(IIII)I" } : Jvm.MethodName)) ∈ lw_tbl := lw_at lw_m8 184 rfl
theorem q1952 : (Jvm.Cond.instanceMethod ({ cls := "TideKeepModel", name := "lastByWet", desc := "(IIII)I" } : Jvm.MethodName)) ∈ lw_all := lw_g (lw_at lw_m8 185 rfl) rfl
theorem q1953 : (Jvm.Cond.code ({ cls := "TideKeepModel", name := "lastByWet", desc := "(IIII)I" } : Jvm.MethodName) prog_16_method_93_code (6 : Nat) (Option.some Jvm.ClassFile.FieldType.int)) ∈ lw_all := lw_g (lw_at lw_m8 186 rfl) rfl
theorem q1955 : (Jvm.Cond.instanceMethod ({ cls := "TideKeepModel", name := "stand", desc := "(III)I" } : Jvm.MethodName)) ∈ lw_all := lw_g (lw_at lw_m8 188 rfl) rfl
theorem q1956 : (Jvm.Cond.selects "TideKeepModel" ({ cls := "TideKeepModel", name := "stand", desc := "(III)I" } : Jvm.MethodName) ({ cls := "TideKeepModel", name := "stand", desc := "(III)I" } : Jvm.MethodName)) ∈ lw_all := lw_g (lw_at lw_m8 189 rfl) rfl
theorem q1957 : (Jvm.Cond.code ({ cls := "TideKeepModel", name := "stand", desc := "(III)I" } : Jvm.MethodName) prog_16_method_96_code (10 : Nat) (Option.some Jvm.ClassFile.FieldType.int)) ∈ lw_all := lw_g (lw_at lw_m8 190 rfl) rfl
theorem q1958 : (Jvm.Cond.methodLink "TideKeepModel" (504 : Nat) ({ cls := "TideKeepModel", name := "areSeeds", desc := "(I)Z" } : Jvm.MethodName)) ∈ lw_all := lw_g (lw_at lw_m8 191 rfl) rfl
theorem q1959 : (Jvm.Cond.static ({ cls := "TideKeepModel", name := "areSeeds", desc := "(I)Z" } : Jvm.MethodName)) ∈ lw_all := lw_g (lw_at lw_m8 192 rfl) rfl
theorem q1960 : (Jvm.Cond.code ({ cls := "TideKeepModel", name := "areSeeds", desc := "(I)Z" } : Jvm.MethodName) prog_16_method_95_code (1 : Nat) (Option.some Jvm.ClassFile.FieldType.boolean)) ∈ lw_all := lw_g (lw_at lw_m8 193 rfl) rfl
theorem q1961 : (Jvm.Cond.constantLong "TideKeepModel" (502 : Nat) (9 : Int64)) ∈ lw_all := lw_g (lw_at lw_m8 194 rfl) rfl
theorem q1963 : (Jvm.Cond.instanceMethod ({ cls := "TideKeepModel", name := "outlasts", desc := "(IIIIZ)I" } : Jvm.MethodName)) ∈ lw_all := lw_g (lw_at lw_m8 196 rfl) rfl
theorem q1964 : (Jvm.Cond.selects "TideKeepModel" ({ cls := "TideKeepModel", name := "outlasts", desc := "(IIIIZ)I" } : Jvm.MethodName) ({ cls := "TideKeepModel", name := "outlasts", desc := "(IIIIZ)I" } : Jvm.MethodName)) ∈ lw_all := lw_g (lw_at lw_m8 197 rfl) rfl
theorem q1965 : (Jvm.Cond.code ({ cls := "TideKeepModel", name := "outlasts", desc := "(IIIIZ)I" } : Jvm.MethodName) prog_16_method_98_code (9 : Nat) (Option.some Jvm.ClassFile.FieldType.int)) ∈ lw_all := lw_g (lw_at lw_m8 198 rfl) rfl
theorem q1966 : (Jvm.Cond.methodLink "TideKeepModel" (507 : Nat) ({ cls := "TideKeepModel", name := "common", desc := "(II)I" } : Jvm.MethodName)) ∈ lw_all := lw_g (lw_at lw_m8 199 rfl) rfl
theorem q1967 : (Jvm.Cond.static ({ cls := "TideKeepModel", name := "common", desc := "(II)I" } : Jvm.MethodName)) ∈ lw_all := lw_g (lw_at lw_m8 200 rfl) rfl
theorem q1968 : (Jvm.Cond.code ({ cls := "TideKeepModel", name := "common", desc := "(II)I" } : Jvm.MethodName) prog_16_method_97_code (5 : Nat) (Option.some Jvm.ClassFile.FieldType.int)) ∈ lw_all := lw_g (lw_at lw_m8 201 rfl) rfl
theorem q1970 : (Jvm.Cond.instanceMethod ({ cls := "TideKeepModel", name := "contest", desc := "(III)I" } : Jvm.MethodName)) ∈ lw_all := lw_g (lw_at lw_m8 203 rfl) rfl
theorem q1971 : (Jvm.Cond.selects "TideKeepModel" ({ cls := "TideKeepModel", name := "contest", desc := "(III)I" } : Jvm.MethodName) ({ cls := "TideKeepModel", name := "contest", desc := "(III)I" } : Jvm.MethodName)) ∈ lw_all := lw_g (lw_at lw_m8 204 rfl) rfl
theorem q1972 : (Jvm.Cond.code ({ cls := "TideKeepModel", name := "contest", desc := "(III)I" } : Jvm.MethodName) prog_16_method_99_code (10 : Nat) (Option.some Jvm.ClassFile.FieldType.int)) ∈ lw_all := lw_g (lw_at lw_m8 205 rfl) rfl
theorem q1974 : (Jvm.Cond.instanceMethod ({ cls := "TideKeepModel", name := "which", desc := "()I" } : Jvm.MethodName)) ∈ lw_all := lw_g (lw_at lw_m8 207 rfl) rfl
theorem q1975 : (Jvm.Cond.selects "TideKeepModel" ({ cls := "TideKeepModel", name := "which", desc := "()I" } : Jvm.MethodName) ({ cls := "TideKeepModel", name := "which", desc := "()I" } : Jvm.MethodName)) ∈ lw_all := lw_g (lw_at lw_m8 208 rfl) rfl
theorem q1976 : (Jvm.Cond.code ({ cls := "TideKeepModel", name := "which", desc := "()I" } : Jvm.MethodName) prog_16_method_100_code (6 : Nat) (Option.some Jvm.ClassFile.FieldType.int)) ∈ lw_all := lw_g (lw_at lw_m8 209 rfl) rfl
theorem q1977 : (Jvm.Cond.constantLong "TideKeepModel" (510 : Nat) (32 : Int64)) ∈ lw_all := lw_g (lw_at lw_m8 210 rfl) rfl
theorem q1978 : (Jvm.Cond.constantLong "TideKeepModel" (512 : Nat) (126 : Int64)) ∈ lw_all := lw_g (lw_at lw_m8 211 rfl) rfl
theorem q1980 : (Jvm.Cond.instanceMethod ({ cls := "TideKeepModel", name := "join", desc := "(IIIIII)I" } : Jvm.MethodName)) ∈ lw_all := lw_g (lw_at lw_m8 213 rfl) rfl
theorem q1981 : (Jvm.Cond.selects "TideKeepModel" ({ cls := "TideKeepModel", name := "join", desc := "(IIIIII)I" } : Jvm.MethodName) ({ cls := "TideKeepModel", name := "join", desc := "(IIIIII)I" } : Jvm.MethodName)) ∈ lw_all := lw_g (lw_at lw_m8 214 rfl) rfl
theorem q1982 : (Jvm.Cond.code ({ cls := "TideKeepModel", name := "join", desc := "(IIIIII)I" } : Jvm.MethodName) prog_16_method_101_code (14 : Nat) (Option.some Jvm.ClassFile.FieldType.int)) ∈ lw_all := lw_g (lw_at lw_m8 215 rfl) rfl
theorem q1983 : (Jvm.Cond.constantLong "TideKeepModel" (514 : Nat) (50 : Int64)) ∈ lw_all := lw_g (lw_at lw_m8 216 rfl) rfl
theorem q1984 : (Jvm.Cond.constantLong "TideKeepModel" (516 : Nat) (100 : Int64)) ∈ lw_all := lw_g (lw_at lw_m8 217 rfl) rfl
theorem q1985 : (Jvm.Cond.methodLink "TideKeepModel" (518 : Nat) ({ cls := "TideKeepModel", name := "joinLeft", desc := "(II)I" } : Jvm.MethodName)) ∈ lw_all := lw_g (lw_at lw_m8 218 rfl) rfl
theorem q1986 : (Jvm.Cond.static ({ cls := "TideKeepModel", name := "joinLeft", desc := "(II)I" } : Jvm.MethodName)) ∈ lw_all := lw_g (lw_at lw_m8 219 rfl) rfl
theorem q1987 : (Jvm.Cond.code ({ cls := "TideKeepModel", name := "joinLeft", desc := "(II)I" } : Jvm.MethodName) prog_16_method_102_code (2 : Nat) (Option.some Jvm.ClassFile.FieldType.int)) ∈ lw_all := lw_g (lw_at lw_m8 220 rfl) rfl
theorem q1989 : (Jvm.Cond.instanceMethod ({ cls := "TideKeepModel", name := "count", desc := "(I)I" } : Jvm.MethodName)) ∈ lw_all := lw_g (lw_at lw_m8 222 rfl) rfl
theorem q1990 : (Jvm.Cond.selects "TideKeepModel" ({ cls := "TideKeepModel", name := "count", desc := "(I)I" } : Jvm.MethodName) ({ cls := "TideKeepModel", name := "count", desc := "(I)I" } : Jvm.MethodName)) ∈ lw_all := lw_g (lw_at lw_m8 223 rfl) rfl
theorem q1991 : (Jvm.Cond.code ({ cls := "TideKeepModel", name := "count", desc := "(I)I" } : Jvm.MethodName) prog_16_method_103_code (2 : Nat) (Option.some Jvm.ClassFile.FieldType.int)) ∈ lw_all := lw_g (lw_at lw_m8 224 rfl) rfl
theorem q2012 : (Jvm.Cond.castable "TideKeepModel" "java/lang/Object") ∈ lw_tbl := lw_at lw_m9 5 rfl
theorem in_X6 : ∀ w ∈ wsX60, w ∈ lw_all := lw_in wsX60 [1432, 1434, 1436, 1438, 1440, 1442, 1444, 1446, 1448, 1450, 1452, 1454, 1456, 1458, 1460, 1462, 1464, 1466, 1468, 1470, 1472, 1474, 1476, 1478, 1480, 1482, 1484, 1486, 1488, 1490, 1492, 1494, 1496, 1498, 1500, 1502, 1504, 1506, 1508, 1510, 1512, 1514, 1516, 1518, 1520, 1522, 1524, 1526, 1528, 1530, 1532, 1534, 1536, 1538, 1540, 1542, 1544, 1546, 1548, 1550, 1552, 1554] (by decide +kernel) (by decide +kernel)
